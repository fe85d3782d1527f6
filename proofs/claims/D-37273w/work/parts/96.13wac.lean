set_option maxRecDepth 100000
/-! the twin's acts with a work, all of them -/
/-- row changed by > < s z: an answer of stAct's last case -/
def chW (od : SOrd0) (W : WG) (B : BG) : Nat ⊕ (WG × BG) := match sChg od W.1.2 with
    | none => .inl 4
    | some (r, b) => (match B with | (h, ou, fi, m, n, rp) => .inr (stRow W r, h, ou, fi, m, n, rp || b))
section StAct
variable {L : Nat} {o : SOrd0} {run : Bool} {W : WG} {B : BG}
theorem stAct_97 (hc : oAct o = 97) : stAct L o run W B = .inr (stDue W (oRows o), B) := by
  unfold stAct
  rw [if_pos hc]
theorem stAct_105 (hc : oAct o = 105) : stAct L o run W B = stPuts W B (oRows o) := by
  unfold stAct
  rw [if_neg (by omega), if_pos hc]
theorem stAct_99 (hc : oAct o = 99) : stAct L o run W B = (if oSnd o = none ∨ run = false then (match stPuts W B (oRows o) with
    | .inl w => .inl w
    | .inr (W1, B1) => .inr (stGone W1 B1)) else .inr (stGone W B)) := by
  unfold stAct
  rw [if_neg (by omega), if_neg (by omega), if_pos hc]
  try rfl
theorem stAct_100 (hc : oAct o = 100) : stAct L o run W B = .inr (stGone W B) := by
  unfold stAct
  rw [if_neg (by omega), if_neg (by omega), if_neg (by omega), if_pos hc]
theorem stAct_106 (hc : oAct o = 106) : stAct L o run W B = stJoin W B := by
  unfold stAct
  rw [if_neg (by omega), if_neg (by omega), if_neg (by omega), if_neg (by omega), if_pos hc]
theorem stAct_118 (hc : oAct o = 118) : stAct L o run W B = (if (oNum o).toNat < W.1.2.length then .inr (stRow (stDue W [W.1.2.drop (oNum o).toNat]) (W.1.2.take (oNum o).toNat), B) else .inr (W, B)) := by
  unfold stAct
  rw [if_neg (by omega), if_neg (by omega), if_neg (by omega), if_neg (by omega), if_neg (by omega), if_pos hc]
theorem stAct_112 (hc : oAct o = 112) : stAct L o run W B = stTell W B W.1.2 := by
  unfold stAct
  rw [if_neg (by omega), if_neg (by omega), if_neg (by omega), if_neg (by omega), if_neg (by omega), if_neg (by omega), if_pos hc]
theorem stAct_61 (hc : oAct o = 61) : stAct L o run W B = stTell W B (sNum (L - W.2.2.2.2.length)) := by
  unfold stAct
  rw [if_neg (by omega), if_neg (by omega), if_neg (by omega), if_neg (by omega), if_neg (by omega), if_neg (by omega), if_neg (by omega), if_pos hc]
theorem stAct_110 (hc : oAct o = 110) : stAct L o run W B = stTell W B (sNum (L - W.2.2.2.2.length) ++ [32] ++ W.1.2) := by
  unfold stAct
  rw [if_neg (by omega), if_neg (by omega), if_neg (by omega), if_neg (by omega), if_neg (by omega), if_neg (by omega), if_neg (by omega), if_neg (by omega), if_pos hc]
theorem stAct_104 (hc : oAct o = 104) : stAct L o run W B = .inr (W, [W.1.2], B.2) := by
  unfold stAct
  rw [if_neg (by omega), if_neg (by omega), if_neg (by omega), if_neg (by omega), if_neg (by omega), if_neg (by omega), if_neg (by omega), if_neg (by omega), if_neg (by omega), if_pos hc]
theorem stAct_72 (hc : oAct o = 72) : stAct L o run W B = (if B.1.length = 40 then .inl 4 else .inr (W, B.1 ++ [W.1.2], B.2)) := by
  unfold stAct
  rw [if_neg (by omega), if_neg (by omega), if_neg (by omega), if_neg (by omega), if_neg (by omega), if_neg (by omega), if_neg (by omega), if_neg (by omega), if_neg (by omega), if_neg (by omega), if_pos hc]
theorem stAct_117 (hc : oAct o = 117) : stAct L o run W B = (if B.1 = [] then .inl 5 else .inr (stDue W B.1, B)) := by
  unfold stAct
  rw [if_neg (by omega), if_neg (by omega), if_neg (by omega), if_neg (by omega), if_neg (by omega), if_neg (by omega), if_neg (by omega), if_neg (by omega), if_neg (by omega), if_neg (by omega), if_neg (by omega), if_pos hc]
theorem stAct_101 (hc : oAct o = 101) : stAct L o run W B = (if B.1.length = 1 then .inr (stRow W (B.1.getD 0 []), [W.1.2], B.2) else .inl 5) := by
  unfold stAct
  rw [if_neg (by omega), if_neg (by omega), if_neg (by omega), if_neg (by omega), if_neg (by omega), if_neg (by omega), if_neg (by omega), if_neg (by omega), if_neg (by omega), if_neg (by omega), if_neg (by omega), if_neg (by omega), if_pos hc]
theorem stAct_107 (hc : oAct o = 107) : stAct L o run W B = (match B with | (h, ou, fi, m, n, rp) => .inr (W, h, ou, fi, fup m (oNum o).toNat (some W.1.1), n, rp)) := by
  unfold stAct
  rw [if_neg (by omega), if_neg (by omega), if_neg (by omega), if_neg (by omega), if_neg (by omega), if_neg (by omega), if_neg (by omega), if_neg (by omega), if_neg (by omega), if_neg (by omega), if_neg (by omega), if_neg (by omega), if_neg (by omega), if_pos hc]
  try rfl
theorem stAct_114 (hc : oAct o = 114) : stAct L o run W B = .inr (stDue W (B.2.2.1 (oNum o).toNat), B) := by
  unfold stAct
  rw [if_neg (by omega), if_neg (by omega), if_neg (by omega), if_neg (by omega), if_neg (by omega), if_neg (by omega), if_neg (by omega), if_neg (by omega), if_neg (by omega), if_neg (by omega), if_neg (by omega), if_neg (by omega), if_neg (by omega), if_neg (by omega), if_pos hc]
theorem stAct_119 (hc : oAct o = 119) : stAct L o run W B = (match B with | (h, ou, fi, m, n, rp) => if (fi (oNum o).toNat).length = 40 then .inl 4 else .inr (W, h, ou, fup fi (oNum o).toNat (fi (oNum o).toNat ++ [W.1.2]), m, n, rp)) := by
  unfold stAct
  rw [if_neg (by omega), if_neg (by omega), if_neg (by omega), if_neg (by omega), if_neg (by omega), if_neg (by omega), if_neg (by omega), if_neg (by omega), if_neg (by omega), if_neg (by omega), if_neg (by omega), if_neg (by omega), if_neg (by omega), if_neg (by omega), if_neg (by omega), if_pos hc]
  try rfl
theorem stAct_ch (hc : oAct o = 62 ∨ oAct o = 60 ∨ oAct o = 115 ∨ oAct o = 122) : stAct L o run W B = chW o W B := by
  unfold stAct
  rw [if_neg (by omega), if_neg (by omega), if_neg (by omega), if_neg (by omega), if_neg (by omega), if_neg (by omega), if_neg (by omega), if_neg (by omega), if_neg (by omega), if_neg (by omega), if_neg (by omega), if_neg (by omega), if_neg (by omega), if_neg (by omega), if_neg (by omega), if_neg (by omega)]
  try rfl
end StAct
section TWac
variable {d : Nat} {σ τ : TS} {s l l1 l2 : List Int} {t pu re : List SLine} {du : List (List Int)} {x : SLine} {W : WG} {B : BG} {fs as : List Nat} {rs : List (List Int)} {xs : List Int} {h o : List (List Int)} {fi : Nat → List (List Int)} {m : Nat → Option Int} {n n0 : Int} {rp : Bool} {od : SOrd0}
/-- held rows are others now -/
theorem TWB.held {h' : List (List Int)} (hB : TWB σ t (x, false, du, pu, re) (h, o, fi, m, n, rp)) (hn : (τ.1 14) = h'.length ∧ h'.length ≤ 40 ∧ RowsIs τ 82 h') (hf : TFr fs as σ τ) (hs : RSame (fun k => (82 ≤ k ∧ k < 123) ∨ k = 431) σ τ) (h1 : ∀ k ∈ [12, 13, 15, 16, 17, 44, 65, 66, 67, 68, 70, 72], k ∉ fs) (h2 : ∀ k ∈ [7, 8, 10, 11], k ∉ as) : TWB τ t (x, false, du, pu, re) (h', o, fi, m, n, rp) := by
  obtain ⟨p, mT, gone, hA, hm1, hm2⟩ := hB.ta
  obtain ⟨a, b', c, e, f, g', i, j⟩ := hB
  have hA1 := hA.held hn hf (fun k z => hs k (fun y => z (by omega))) (fun k hk => h1 k (by simp at hk ⊢; omega)) (fun k hk => h2 k (by simp at hk ⊢; omega))
  exact ⟨a.same hf hs (fun k hk => h1 k (by simp at hk ⊢; omega)) (h2 7 (by decide)) (fun k z => by omega), b'.same hf hs (h1 13 (by decide)) (h2 8 (by decide)) (fun k z => by omega), c.same hf hs (h1 72 (by decide)) (fun k z => by omega), e.same hf hs (fun k hk => h1 k (by simp at hk ⊢; omega)) (by omega), hA1.2.2.1, g'.same (hf.2 10 (h2 10 (by decide))), (hf.1 17 (h1 17 (by decide))).trans i, (hf.1 44 (h1 44 (by decide))).trans j⟩
theorem T_holdWork {first : Nat} {v : Int} (hB : TWB σ t (x, false, du, pu, re) (h, o, fi, m, n, rp)) (hv : v = first) (hfi : first ≤ h.length) : TM (d + 2) tk_holdWork [.inr 0, .inl v] σ (SaQ σ t (if first = 40 then .inl 4 else .inr ((x, false, du, pu, re), (h.take first ++ [x.2], o, fi, m, n, rp)))) := by
  obtain ⟨hrw, -, -⟩ := hB.2.2.2.1.2 rfl
  have hrw : RowIs σ 429 x.2 := hrw
  obtain ⟨h14, hh40, hhr⟩ := hB.2.2.2.2.1.1
  have hh40 : h.length ≤ 40 := hh40
  refine TM.of rfl rfl ?_
  (repeat (first | (refine TW.getf rfl rfl rfl (fun _ => ?_)) | (refine TW.pl rfl rfl ?_)))
  refine TW.br rfl rfl (by first | omega | exact b2i_R _ | exact ⟨b2i_R _, by omega⟩) (fun q1 => ?_) (fun q1 => ?_)
  · rw [if_neg (by omega)]
    (repeat (first | (refine TW.getf rfl rfl rfl (fun _ => ?_)) | (refine TW.pl rfl rfl ?_)))
    refine TW.cv2 rfl rfl rfl (Nat.le_of_ble_eq_true rfl) (T_cpRow (a := 429) (b := 82 + first) hrw rfl (by omega) (by decide) (by omega)) ?_
    rintro _ τ1 ⟨rfl, hr1, hs1, hf1⟩
    (repeat (first | (refine TW.getf rfl rfl rfl (fun _ => ?_)) | (refine TW.pl rfl rfl ?_)))
    refine TW.putf rfl rfl (by omega) ?_
    (repeat (first | (refine TW.getf rfl rfl rfl (fun _ => ?_)) | (refine TW.pl rfl rfl ?_)))
    have hf2 : TFr [14] [6] σ (ts1 τ1 14 (v + 1)) := (hf1.mono (by decide) (by decide)).ts1 (by decide)
    have hs2 : RSame (fun k => k = 82 + first) σ (ts1 τ1 14 (v + 1)) := hs1
    have hlen : (h.take first ++ [x.2]).length = first + 1 := by rw [List.length_append, List.length_take]; simp; omega
    refine TW.iret rfl ⟨SF.row hf2 hs2 (by decide) (by decide) (fun k z => by omega), rfl, hB.held ⟨by rw [ts1_eq, hlen]; omega, by omega, fun k hk => ?_⟩ hf2 (fun i hi => hs2 i (fun z => hi (by omega))) (by decide) (by decide)⟩
    rw [hlen] at hk
    refine RowIs.ts1 ?_
    have htl : (h.take first).length = first := by rw [List.length_take]; omega
    by_cases e : k < first
    · rw [getD_apl (by omega), show (h.take first).getD k [] = h.getD k [] by rw [List.getD_eq_getElem?_getD, List.getElem?_take_of_lt e, ← List.getD_eq_getElem?_getD]]
      exact (hhr k (by show k < h.length; omega)).same hs1 (by omega)
    · have ek : k = first := by omega
      have : (h.take first ++ [x.2]).getD k [] = x.2 := by
        have := zget (pre := h.take first) (post := ([] : List (List Int))) (x := x.2) (y := [])
        rw [htl] at this
        rw [ek]
        exact this
      rw [this, ek]
      exact hr1
  · rw [if_pos (by omega)]
    (repeat (first | (refine TW.getf rfl rfl rfl (fun _ => ?_)) | (refine TW.pl rfl rfl ?_)))
    exact TW.iret rfl ⟨SF.rf, rfl, by decide, by decide⟩
theorem T_exchangeWork (hB : TWB σ t (x, false, du, pu, re) (h, o, fi, m, n, rp)) : TM (d + 2) tk_exchangeWork [.inr 0] σ (SaQ σ t (if h.length = 1 then .inr (stRow (x, false, du, pu, re) (h.getD 0 []), ([x.2], o, fi, m, n, rp)) else .inl 5)) := by
  obtain ⟨hrw, -, -⟩ := hB.2.2.2.1.2 rfl
  have hrw : RowIs σ 429 x.2 := hrw
  obtain ⟨h14, hh40, hhr⟩ := hB.2.2.2.2.1.1
  have h14 : σ.1 14 = h.length := h14
  have hhr : RowsIs σ 82 h := hhr
  refine TM.of rfl rfl ?_
  (repeat (first | (refine TW.getf rfl rfl rfl (fun _ => ?_)) | (refine TW.pl rfl rfl ?_)))
  refine TW.br rfl rfl (by first | omega | exact b2i_R _ | exact ⟨b2i_R _, by omega⟩) (fun q1 => ?_) (fun q1 => ?_)
  · rw [if_pos (by omega)]
    (repeat (first | (refine TW.getf rfl rfl rfl (fun _ => ?_)) | (refine TW.pl rfl rfl ?_)))
    refine TW.cv2 rfl rfl rfl (Nat.le_of_ble_eq_true rfl) (T_cpRow (a := 429) (b := 431) hrw rfl rfl (by decide) (by decide)) ?_
    rintro _ τ1 ⟨rfl, hr1, hs1, hf1⟩
    (repeat (first | (refine TW.getf rfl rfl rfl (fun _ => ?_)) | (refine TW.pl rfl rfl ?_)))
    refine TW.cv2 rfl rfl rfl (Nat.le_of_ble_eq_true rfl) (T_cpRow (a := 82) (b := 429) ((hhr 0 (by omega)).same hs1 (by decide)) rfl rfl (by decide) (by decide)) ?_
    rintro _ τ2 ⟨rfl, hr2, hs2, hf2⟩
    (repeat (first | (refine TW.getf rfl rfl rfl (fun _ => ?_)) | (refine TW.pl rfl rfl ?_)))
    refine TW.cv2 rfl rfl rfl (Nat.le_of_ble_eq_true rfl) (T_cpRow (a := 431) (b := 82) (hr1.same hs2 (by decide)) rfl rfl (by decide) (by decide)) ?_
    rintro _ τ3 ⟨rfl, hr3, hs3, hf3⟩
    (repeat (first | (refine TW.getf rfl rfl rfl (fun _ => ?_)) | (refine TW.pl rfl rfl ?_)))
    have hf12 : TFr [] [6] σ τ2 := hf1.trans hf2
    have hs12 : RSame (fun k => k = 429 ∨ k = 431) σ τ2 := fun i hi => (hs2 i (fun z => hi (Or.inl z))).trans (hs1 i (fun z => hi (Or.inr z)))
    have hB2 := hB.row hr2 hf12 hs12 (by decide) (by decide) ((hf12.1 44 (by decide)).trans hB.2.2.2.2.2.2.2)
    have hf4 : TFr [14] [6] τ2 τ3 := hf3.mono (by decide) (by decide)
    refine TW.iret rfl ⟨SF.row (hf12.trans hf3) (P := fun k => k = 429 ∨ k = 431 ∨ k = 82) (fun i hi => (hs3 i (fun z => hi (Or.inr (Or.inr z)))).trans (hs12 i (fun z => hi (by omega)))) (by decide) (by decide) (fun k z => by omega), rfl, ?_⟩
    refine hB2.held ⟨?_, by simp, fun k hk => ?_⟩ hf3 (fun i hi => hs3 i (fun z => hi (by omega))) (by decide) (by decide)
    · rw [hf3.1 14 (by decide), hf12.1 14 (by decide), h14]
      show (h.length : Int) = 1
      omega
    · simp at hk
      subst hk
      exact hr3
  · rw [if_neg (by omega)]
    (repeat (first | (refine TW.getf rfl rfl rfl (fun _ => ?_)) | (refine TW.pl rfl rfl ?_)))
    exact TW.iret rfl ⟨SF.rf, rfl, by decide, by decide⟩
theorem T_writeWork {q0 : Nat} {u : Int} (hB : TWB σ t (x, false, du, pu, re) (h, o, fi, m, n, rp)) (hu : u = q0) (hq0 : q0 < 4) : TM (d + 2) tk_writeWork [.inr 0, .inl u] σ (SaQ σ t (if (fi q0).length = 40 then .inl 4 else .inr ((x, false, du, pu, re), (h, o, fup fi q0 (fi q0 ++ [x.2]), m, n, rp)))) := by
  obtain ⟨hrw, -, -⟩ := hB.2.2.2.1.2 rfl
  have hrw : RowIs σ 429 x.2 := hrw
  obtain ⟨h11, hh40, hhr⟩ := hB.2.2.2.2.1.2.2 q0 hq0
  have h11 : σ.2 11 q0 = (fi q0).length := h11
  have hh40 : (fi q0).length ≤ 40 := hh40
  have hun : u.toNat = q0 := by omega
  refine TM.of rfl rfl ?_
  (repeat (first | (refine TW.getf rfl rfl rfl (fun _ => ?_)) | (refine TW.pl rfl rfl ?_)))
  refine TW.iald (n := 4) rfl rfl rfl (by omega) (fun _ => ?_)
  rw [hun, h11]
  (repeat (first | (refine TW.getf rfl rfl rfl (fun _ => ?_)) | (refine TW.pl rfl rfl ?_)))
  refine TW.br rfl rfl (by first | omega | exact b2i_R _ | exact ⟨b2i_R _, by omega⟩) (fun q1 => ?_) (fun q1 => ?_)
  · rw [if_neg (by omega)]
    (repeat (first | (refine TW.getf rfl rfl rfl (fun _ => ?_)) | (refine TW.pl rfl rfl ?_)))
    refine TW.iald (n := 4) rfl rfl rfl (by omega) (fun _ => ?_)
    rw [hun, h11]
    refine TW.cs2 rfl rfl rfl (Nat.le_of_ble_eq_true rfl) (T_fileRow (k := q0) (j := (fi q0).length) hu rfl) ?_; rintro _ _ ⟨rfl, rfl⟩
    refine TW.cv2 rfl rfl rfl (Nat.le_of_ble_eq_true rfl) (T_cpRow (a := 429) (b := 123 + 41 * q0 + (fi q0).length) hrw rfl rfl (by decide) (by omega)) ?_
    rintro _ τ1 ⟨rfl, hr1, hs1, hf1⟩
    have h11' : τ1.2 11 q0 = (fi q0).length := by rw [hf1.2 11 (by decide)]; exact h11
    (repeat (first | (refine TW.getf rfl rfl rfl (fun _ => ?_)) | (refine TW.pl rfl rfl ?_)))
    refine TW.iald (n := 4) rfl rfl rfl (by omega) (fun _ => ?_)
    rw [hun, h11']
    (repeat (first | (refine TW.getf rfl rfl rfl (fun _ => ?_)) | (refine TW.pl rfl rfl ?_)))
    refine TW.iast (n := 4) rfl rfl rfl (by omega) (by omega) ?_
    rw [hun]
    (repeat (first | (refine TW.getf rfl rfl rfl (fun _ => ?_)) | (refine TW.pl rfl rfl ?_)))
    have hf2 : TFr [] [6, 11] σ (ts2 τ1 11 q0 ((fi q0).length + 1)) := (hf1.mono (by decide) (by decide)).ts2 (by decide)
    have hs2 : RSame (fun k => 123 + 41 * q0 ≤ k ∧ k < 164 + 41 * q0) σ (ts2 τ1 11 q0 ((fi q0).length + 1)) := fun i hi => by
      rw [ts2_ne (by decide)]; exact hs1 i (fun z => hi (by omega))
    obtain ⟨p, mT, gone, hA, hm1, hm2⟩ := hB.ta
    obtain ⟨a, b', c, e, f, g', i, j⟩ := hB
    have hA1 := TA.file (f' := fi q0 ++ [x.2]) hq0 hA ⟨?_, ?_, fun k hk => ?_⟩ hf2 hs2 (by decide) (by decide) (fun k hk => by rw [ts2_at, if_neg hk, hf1.2 11 (by decide)])
    · refine TW.iret rfl ⟨SF.row hf2 hs2 (by decide) (by decide) (fun k z => by omega), rfl, a.same hf2 hs2 (by decide) (by decide) (fun k z => by omega), b'.same hf2 hs2 (by decide) (by decide) (fun k z => by omega), c.same hf2 hs2 (by decide) (fun k z => by omega), e.same hf2 hs2 (by decide) (by omega), hA1.2.2.1, g'.same (hf2.2 10 (by decide)), (hf2.1 17 (by decide)).trans i, (hf2.1 44 (by decide)).trans j⟩
    · rw [ts2_at, if_pos rfl]; simp
    · simp; omega
    · simp at hk
      refine RowIs.ts2 ?_ (by decide)
      by_cases ek : k < (fi q0).length
      · rw [getD_apl ek]; exact (hhr k ek).same hs1 (by omega)
      · have : k = (fi q0).length := by omega
        subst this
        rw [zget]
        exact hr1
  · rw [if_pos (by omega)]
    (repeat (first | (refine TW.getf rfl rfl rfl (fun _ => ?_)) | (refine TW.pl rfl rfl ?_)))
    exact TW.iret rfl ⟨SF.rf, rfl, by decide, by decide⟩
/-- the work is marked -/
theorem TWB.mark {k0 kz : Nat} (hB : TWB σ t (x, false, du, pu, re) (h, o, fi, m, n, rp)) (hw : WS n0 (x, false, du, pu, re) (h, o, fi, m, n, rp)) (hkz : kz = k0) : TWB (ts2 σ 10 kz x.1) t (x, false, du, pu, re) (h, o, fi, fup m k0 (some x.1), n, rp) := by
  subst hkz
  have hwR := hw.work.1
  have hf2 : TFr [] [10] σ (ts2 σ 10 kz x.1) := TFr.rf.ts2 (by decide)
  have hs2 : RSame (fun _ => False) σ (ts2 σ 10 kz x.1) := RSame.no hf2 (by decide)
  obtain ⟨a, b', c, e, f, ⟨mT, gone, m1, m2, m3⟩, i, j⟩ := hB
  refine ⟨a.same hf2 hs2 (by decide) (by decide) (fun k z => z.elim), b'.same hf2 hs2 (by decide) (by decide) (fun k z => z.elim), c.same hf2 hs2 (by decide) (fun k z => z.elim), e.same hf2 hs2 (by decide) (fun z => z.elim), f.same hf2 hs2 (by decide) (by decide) (fun k z => z.elim), ⟨fup mT kz (some x.1), gone, fun k hk => ?_, ?_, m3⟩, i, j⟩
  · have hmk := m1 k hk
    rw [ts2_at]
    unfold fup
    by_cases ek : k = kz
    · rw [if_pos ek, if_pos ek]
      exact ⟨rfl, fun y hy => by cases hy; exact hwR.1⟩
    · rw [if_neg ek, if_neg ek]
      exact hmk
  · show fup m kz (some x.1) = _
    rw [show m = unmL mT gone from m2]
    funext k
    have hng : x.1 ∉ gone := fun z => (m3 x.1 z).1 (by rw [allL_ids]; exact mem_app3.mpr (Or.inr (Or.inl (by simp))))
    unfold fup unmL
    by_cases ek : k = kz
    · rw [if_pos ek]; dsimp only; rw [if_pos ek]; dsimp only; rw [if_neg hng]
    · rw [if_neg ek]; dsimp only; rw [if_neg ek]
theorem TW.retS {i a : Nat} {b : Int} {C : List TI} {ls : TL} {R : Nat ⊕ (WG × BG)} {r : Option Int} (hC : C[i]? = some (32, a, b)) (hq : SaQ σ t R r τ) : TW d C i ls ((r.map Sum.inl).toList ++ []) τ (SaQ σ t R) := by
  obtain ⟨v, rfl⟩ : ∃ v, r = some v := by
    cases R with
    | inl w => exact ⟨_, hq.2.1⟩
    | inr A => exact ⟨_, hq.2.1⟩
  exact TW.iret hC hq
theorem b2i_zo (b : Bool) : b2i b = 0 ∨ b2i b = 1 := by cases b <;> simp [b2i]
theorem T_otherWorkAct {x0 : Int} {L : Nat} {run : Bool} (hs : SgnIs σ s) (hB : TWB σ t (x, false, du, pu, re) (h, o, fi, m, n, rp)) (hw : WS n0 (x, false, du, pu, re) (h, o, fi, m, n, rp)) (hx : Sfx s l x0) (hl0 : l ≠ []) (hact : oAct od = hd l) (hp : ActP l l1 od) (h48 : ¬ hd l1 = 48) (hdl : du.length < 900000) (hrem : hd l = 62 ∨ hd l = 60 ∨ hd l = 115 ∨ hd l = 122 ∨ hd l = 114 ∨ hd l = 119 ∨ hd l = 107) : TM (d + 9) tk_otherWorkAct [.inr 0, .inl x0] σ (SaQ σ t (stAct L od run (x, false, du, pu, re) (h, o, fi, m, n, rp))) := by
  have ha := hs.at hx hl0
  have hx1 : Sfx s l.tail (x0 + 1) := hx.step hl0 rfl
  obtain ⟨hrw, hwid, -⟩ := hB.2.2.2.1.2 rfl
  have hrw : RowIs σ 429 x.2 := hrw
  have hwid : σ.1 67 = x.1 := hwid
  have hrp : σ.1 44 = b2i rp := hB.2.2.2.2.2.2.2
  obtain ⟨p1, p2, p3, p4, p5, p6, p7, p8, p9, p10⟩ := hp
  refine TM.of rfl rfl ?_
  (repeat (first | (refine TW.getf rfl rfl rfl (fun _ => ?_)) | (refine TW.pl rfl rfl ?_)))
  refine TW.iald (n := 60) rfl rfl rfl (by omega) (fun _ => ?_)
  rw [ha.1]
  (repeat (first | (refine TW.getf rfl rfl rfl (fun _ => ?_)) | (refine TW.pl rfl rfl ?_)))
  refine TW.br rfl rfl (by first | omega | exact b2i_R _ | exact ⟨b2i_R _, by omega⟩) (fun n62 => ?_) (fun n62 => ?_)
  rotate_left
  · clear hrem 
    have hc : oAct od = 62 := hact.trans n62
    have hpn := p2 (by rw [← hact, hc]; decide)
    have hv := pNum_R9 hpn
    rw [stAct_ch (Or.inl hc)]
    have e0 : sChg od x.2 = if 30 < (oNum od).toNat + x.2.length then none else some (List.replicate (oNum od).toNat 32 ++ x.2, false) := by
      unfold sChg
      rw [if_neg (by omega), if_neg (by omega), if_pos (by omega)]
    unfold chW
    rw [show ((x, false, du, pu, re) : WG).1.2 = x.2 from rfl, e0]
    (repeat (first | (refine TW.getf rfl rfl rfl (fun _ => ?_)) | (refine TW.pl rfl rfl ?_)))
    refine TW.cv1 rfl rfl rfl (Nat.le_of_ble_eq_true rfl) (T_numberAt hs hx1 hpn) ?_; rintro _ _ ⟨rfl, rfl⟩
    refine TW.cv2 rfl rfl rfl (Nat.le_of_ble_eq_true rfl) (T_moveRight (row := 429) (b := (oNum od).toNat) hrw rfl (by decide) (by omega) (by omega)) ?_
    rintro _ τ1 ⟨rfl, hr1, hs1, hf1⟩
    have hSF : SF σ τ1 := SF.row hf1 hs1 (by decide) (by decide) (fun k z => by omega)
    refine TW.br rfl rfl (by first | omega | exact b2i_R _ | exact ⟨b2i_R _, by omega⟩) (fun q1 => ?_) (fun q1 => ?_)
    · have h3 : ¬ (oNum od).toNat + x.2.length ≤ 30 := of_decide_eq_false (b2i_0 q1)
      rw [if_pos (by omega)]
      (repeat (first | (refine TW.getf rfl rfl rfl (fun _ => ?_)) | (refine TW.pl rfl rfl ?_)))
      exact TW.iret rfl ⟨hSF, rfl, by decide, by decide⟩
    · have h3 : (oNum od).toNat + x.2.length ≤ 30 := of_decide_eq_true (b2i_1 q1)
      rw [if_neg (by omega)]
      (repeat (first | (refine TW.getf rfl rfl rfl (fun _ => ?_)) | (refine TW.pl rfl rfl ?_)))
      refine TW.iret rfl ⟨hSF, rfl, hB.row (hr1 h3) hf1 (fun i hi => hs1 i (fun z => hi (Or.inl z))) (by decide) (by decide) ?_⟩
      rw [hf1.1 44 (by decide), hrp, Bool.or_false]
  (repeat (first | (refine TW.getf rfl rfl rfl (fun _ => ?_)) | (refine TW.pl rfl rfl ?_)))
  refine TW.br rfl rfl (by first | omega | exact b2i_R _ | exact ⟨b2i_R _, by omega⟩) (fun n60 => ?_) (fun n60 => ?_)
  rotate_left
  · clear hrem n62
    have hc : oAct od = 60 := hact.trans n60
    have hpn := p2 (by rw [← hact, hc]; decide)
    have hv := pNum_R9 hpn
    rw [stAct_ch (Or.inr (Or.inl hc))]
    have e0 : sChg od x.2 = some (x.2.drop (sBlanks (oNum od).toNat x.2), false) := by
      unfold sChg
      rw [if_neg (by omega), if_neg (by omega), if_neg (by omega)]
    unfold chW
    rw [show ((x, false, du, pu, re) : WG).1.2 = x.2 from rfl, e0]
    (repeat (first | (refine TW.getf rfl rfl rfl (fun _ => ?_)) | (refine TW.pl rfl rfl ?_)))
    refine TW.cv1 rfl rfl rfl (Nat.le_of_ble_eq_true rfl) (T_numberAt hs hx1 hpn) ?_; rintro _ _ ⟨rfl, rfl⟩
    refine TW.cv2 rfl rfl rfl (Nat.le_of_ble_eq_true rfl) (T_moveLeft (row := 429) (b := (oNum od).toNat) hrw rfl (by decide) (by omega) (by omega)) ?_
    rintro _ τ1 ⟨rfl, hr1, hs1, hf1⟩
    (repeat (first | (refine TW.getf rfl rfl rfl (fun _ => ?_)) | (refine TW.pl rfl rfl ?_)))
    refine TW.iret rfl ⟨SF.row hf1 hs1 (by decide) (by decide) (fun k z => by omega), rfl, hB.row hr1 hf1 (fun i hi => hs1 i (fun z => hi (Or.inl z))) (by decide) (by decide) ?_⟩
    rw [hf1.1 44 (by decide), hrp, Bool.or_false]
  (repeat (first | (refine TW.getf rfl rfl rfl (fun _ => ?_)) | (refine TW.pl rfl rfl ?_)))
  refine TW.br rfl rfl (by first | omega | exact b2i_R _ | exact ⟨b2i_R _, by omega⟩) (fun n115 => ?_) (fun n115 => ?_)
  rotate_left
  · clear hrem n62 n60
    have hc : oAct od = 115 := hact.trans n115
    rw [stAct_ch (Or.inr (Or.inr (Or.inl hc)))]
    have e0 : sChg od x.2 = if 30 < (sRepl od x.2).1.length then none else some (sRepl od x.2) := by
      unfold sChg
      rw [if_pos (by omega)]
    unfold chW
    rw [show ((x, false, du, pu, re) : WG).1.2 = x.2 from rfl, e0]
    (repeat (first | (refine TW.getf rfl rfl rfl (fun _ => ?_)) | (refine TW.pl rfl rfl ?_)))
    refine TW.cv2 rfl rfl rfl (Nat.le_of_ble_eq_true rfl) (T_replaces (row := 429) hs hrw rfl (by decide) hx hl0 (p8 n115) h48) ?_
    rintro _ τ1 ⟨hf1, hs1, rfl, hq⟩
    have hSF : SF σ τ1 := SF.row hf1 hs1 (by decide) (by decide) (fun k z => by omega)
    refine TW.br rfl rfl (by first | omega | exact b2i_R _ | exact ⟨b2i_R _, by omega⟩) (fun q1 => ?_) (fun q1 => ?_)
    · have h3 : ¬ (sRepl od x.2).1.length ≤ 30 := of_decide_eq_false (b2i_0 q1)
      rw [if_pos (by omega)]
      (repeat (first | (refine TW.getf rfl rfl rfl (fun _ => ?_)) | (refine TW.pl rfl rfl ?_)))
      exact TW.iret rfl ⟨hSF, rfl, by decide, by decide⟩
    · have h3 : (sRepl od x.2).1.length ≤ 30 := of_decide_eq_true (b2i_1 q1)
      obtain ⟨hr1, h44⟩ := hq h3
      rw [if_neg (by omega)]
      (repeat (first | (refine TW.getf rfl rfl rfl (fun _ => ?_)) | (refine TW.pl rfl rfl ?_)))
      refine TW.iret rfl ⟨hSF, rfl, hB.row hr1 hf1 (fun i hi => hs1 i (fun z => hi (Or.inl z))) (by decide) (by decide) ?_⟩
      rw [h44, hrp]
      show (if (sRepl od x.2).2 = true then 1 else b2i rp) = b2i (rp || (sRepl od x.2).2)
      generalize (sRepl od x.2).2 = bb
      cases bb <;> cases rp <;> rfl
  (repeat (first | (refine TW.getf rfl rfl rfl (fun _ => ?_)) | (refine TW.pl rfl rfl ?_)))
  refine TW.br rfl rfl (by first | omega | exact b2i_R _ | exact ⟨b2i_R _, by omega⟩) (fun n122 => ?_) (fun n122 => ?_)
  rotate_left
  · clear hrem n62 n60 n115
    have hc : oAct od = 122 := hact.trans n122
    rw [stAct_ch (Or.inr (Or.inr (Or.inr hc)))]
    have e0 : sChg od x.2 = some (sTrn (oLet od) (oPut od) x.2, false) := by
      unfold sChg
      rw [if_neg (by omega), if_pos (by omega)]
    unfold chW
    rw [show ((x, false, du, pu, re) : WG).1.2 = x.2 from rfl, e0]
    (repeat (first | (refine TW.getf rfl rfl rfl (fun _ => ?_)) | (refine TW.pl rfl rfl ?_)))
    refine TW.cv2 rfl rfl rfl (Nat.le_of_ble_eq_true rfl) (T_turns (row := 429) hs hrw rfl (by decide) hx hl0 (p9 n122)) ?_
    rintro _ τ1 ⟨rfl, hr1, hs1, hf1⟩
    (repeat (first | (refine TW.getf rfl rfl rfl (fun _ => ?_)) | (refine TW.pl rfl rfl ?_)))
    refine TW.iret rfl ⟨SF.row hf1 hs1 (by decide) (by decide) (fun k z => by omega), rfl, hB.row hr1 hf1 (fun i hi => hs1 i (fun z => hi (Or.inl z))) (by decide) (by decide) ?_⟩
    rw [hf1.1 44 (by decide), hrp, Bool.or_false]
  (repeat (first | (refine TW.getf rfl rfl rfl (fun _ => ?_)) | (refine TW.pl rfl rfl ?_)))
  refine TW.br rfl rfl (by first | omega | exact b2i_R _ | exact ⟨b2i_R _, by omega⟩) (fun n114 => ?_) (fun n114 => ?_)
  rotate_left
  · clear hrem n62 n60 n115 n122
    have hc : oAct od = 114 := hact.trans n114
    obtain ⟨hd1, hd2⟩ := p5 (by rw [← hact, hc]; decide)
    have hb := hs.at hx1 (fun z => by rw [z] at hd1; exact absurd hd1.1 (by decide))
    obtain ⟨h11, hh40, hhr⟩ := hB.2.2.2.2.1.2.2 (oNum od).toNat (by omega)
    have h11 : σ.2 11 (oNum od).toNat = (fi (oNum od).toNat).length := h11
    have hh40 : (fi (oNum od).toNat).length ≤ 40 := hh40
    have hun : (hd l.tail - 48).toNat = (oNum od).toNat := by omega
    rw [stAct_114 hc]
    (repeat (first | (refine TW.getf rfl rfl rfl (fun _ => ?_)) | (refine TW.pl rfl rfl ?_)))
    refine TW.iald (n := 60) rfl rfl rfl (by omega) (fun _ => ?_)
    rw [hb.1]
    (repeat (first | (refine TW.getf rfl rfl rfl (fun _ => ?_)) | (refine TW.pl rfl rfl ?_)))
    refine TW.cs2 rfl rfl rfl (Nat.le_of_ble_eq_true rfl) (T_fileRow (k := (oNum od).toNat) (j := 0) (by omega) rfl) ?_; rintro _ _ ⟨rfl, rfl⟩
    (repeat (first | (refine TW.getf rfl rfl rfl (fun _ => ?_)) | (refine TW.pl rfl rfl ?_)))
    refine TW.iald (n := 60) rfl rfl rfl (by omega) (fun _ => ?_)
    rw [hb.1]
    (repeat (first | (refine TW.getf rfl rfl rfl (fun _ => ?_)) | (refine TW.pl rfl rfl ?_)))
    refine TW.iald (n := 4) rfl rfl rfl (by omega) (fun _ => ?_)
    rw [hun, h11]
    refine TW.cv2 rfl rfl rfl (Nat.le_of_ble_eq_true rfl) (T_dueRows (b0 := 123 + 41 * (oNum od).toNat) (rs := fi (oNum od).toNat) hB.2.2.1 hhr (by omega) rfl (by omega) (by show du.length + _ < 1000000; omega)) ?_
    rintro _ τ1 ⟨rfl, hD1, hs1, hf1⟩
    exact TW.iret rfl ⟨SF.row hf1 hs1 (by decide) (by decide) (fun k z => by omega), rfl, hB.due hD1 hf1 (fun i hi => hs1 i (fun z => hi (Or.inl z))) (by decide) (by decide)⟩
  (repeat (first | (refine TW.getf rfl rfl rfl (fun _ => ?_)) | (refine TW.pl rfl rfl ?_)))
  refine TW.br rfl rfl (by first | omega | exact b2i_R _ | exact ⟨b2i_R _, by omega⟩) (fun n119 => ?_) (fun n119 => ?_)
  rotate_left
  · clear hrem n62 n60 n115 n122 n114
    have hc : oAct od = 119 := hact.trans n119
    obtain ⟨hd1, hd2⟩ := p5 (by rw [← hact, hc]; decide)
    have hb := hs.at hx1 (fun z => by rw [z] at hd1; exact absurd hd1.1 (by decide))
    rw [stAct_119 hc]
    (repeat (first | (refine TW.getf rfl rfl rfl (fun _ => ?_)) | (refine TW.pl rfl rfl ?_)))
    refine TW.iald (n := 60) rfl rfl rfl (by omega) (fun _ => ?_)
    rw [hb.1]
    (repeat (first | (refine TW.getf rfl rfl rfl (fun _ => ?_)) | (refine TW.pl rfl rfl ?_)))
    refine TW.cv1 rfl rfl rfl (Nat.le_of_ble_eq_true rfl) (T_writeWork (q0 := (oNum od).toNat) hB (by omega) (by omega)) ?_
    intro r τ1 hq
    exact TW.retS rfl hq
  (repeat (first | (refine TW.getf rfl rfl rfl (fun _ => ?_)) | (refine TW.pl rfl rfl ?_)))
  refine TW.br rfl rfl (by first | omega | exact b2i_R _ | exact ⟨b2i_R _, by omega⟩) (fun n107 => ?_) (fun n107 => ?_)
  · rcases hrem with z | z | z | z | z | z | z
    · exact absurd z n62
    · exact absurd z n60
    · exact absurd z n115
    · exact absurd z n122
    · exact absurd z n114
    · exact absurd z n119
    · exact absurd z n107
  · clear hrem n62 n60 n115 n122 n114 n119
    obtain ⟨hd1, hd2⟩ := p4 n107
    have hdR : 97 ≤ hd l.tail ∧ hd l.tail ≤ 101 := of_decide_eq_true hd1
    have hb := hs.at hx1 (fun z => by rw [z] at hd1; exact absurd hd1 (by decide))
    rw [stAct_107 (hact.trans n107)]
    have hwR := hw.work.1
    have hnR : 0 ≤ n ∧ n ≤ n0 + 40 := hw.nn
    (repeat (first | (refine TW.getf rfl rfl rfl (fun _ => ?_)) | (refine TW.pl rfl rfl ?_)))
    refine TW.iald (n := 60) rfl rfl rfl (by omega) (fun _ => ?_)
    rw [hb.1]
    (repeat (first | (refine TW.getf rfl rfl rfl (fun _ => ?_)) | (refine TW.pl rfl rfl ?_)))
    rw [hwid]
    refine TW.wR (fun hR => ?_)
    have hxi : inR x.1 := by rw [← hwid]; exact hR.1 67
    refine TW.iast (n := 5) rfl rfl rfl (by omega) (by omega) ?_
    (repeat (first | (refine TW.getf rfl rfl rfl (fun _ => ?_)) | (refine TW.pl rfl rfl ?_)))
    exact TW.iret rfl ⟨SF.fr (TFr.rf.ts2 (fs := []) (as := [10]) (by decide)) (by decide) (by decide) (by decide), rfl, hB.mark hw (by omega)⟩
end TWac
