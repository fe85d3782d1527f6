set_option maxRecDepth 100000
/-! the twin's acts: e, t and m -/
section TMov
variable {d : Nat} {σ τ : TS} {s l l1 : List Int} {fs as : List Nat} {pre mid post t : List SLine} {p : Nat} {h o : List (List Int)} {fi : Nat → List (List Int)} {m : Nat → Option Int} {n : Int} {rp : Bool} {rs : List (List Int)}
theorem T_exchange (hA : TA (pre ++ mid ++ post, p, h, o, fi, m, n, rp) σ) (hid : ∀ q ∈ mid, 0 ≤ q.1 ∧ q.1 < 1000000) (hf : (σ.1 42) = pre.length + 1) (hl : (σ.1 43) = pre.length + mid.length) (hn : 0 ≤ n ∧ n < 900000) : TM (d + 5) tk_exchange [.inr 0] σ (ActQ σ (if h = [] then .inl 5 else if 40 < pre.length + post.length + h.length then .inl 4 else .inr (pre ++ mkL n h ++ post, pre.length + h.length, rowsOfL mid, o, fi, unmL m (idsOfL mid), n + h.length, rp))) := by
  obtain ⟨h12, h40⟩ := hA.lenM
  obtain ⟨h14, hh40, hhr⟩ := hA.heldR
  refine TM.of rfl rfl ?_
  (repeat (first | (refine TW.getf rfl rfl rfl (fun _ => ?_)) | (refine TW.pl rfl rfl ?_)))
  refine TW.br rfl rfl (by first | omega | exact b2i_R _ | exact ⟨b2i_R _, by omega⟩) (fun q0 => ?_) (fun q0 => ?_)
  · have : h ≠ [] := fun z => by rw [z] at h14; exact q0 h14
    rw [if_neg this]
    (repeat (first | (refine TW.getf rfl rfl rfl (fun _ => ?_)) | (refine TW.pl rfl rfl ?_)))
    refine TW.br rfl rfl (by first | omega | exact b2i_R _ | exact ⟨b2i_R _, by omega⟩) (fun q1 => ?_) (fun q1 => ?_)
    · rw [if_neg (by omega)]
      (iterate 2 (first | (refine TW.getf rfl rfl rfl (fun _ => ?_)) | (refine TW.pl rfl rfl ?_)))
      have hrw : σ.1 43 - σ.1 42 + 1 = mid.length := by omega
      rw [hrw]
      -- what was aside comes to be held
      have lastl : ∀ (τC : TS), TA (pre ++ mkL n h ++ post, pre.length + h.length, h, o, fi, unmL m (idsOfL mid), n + h.length, rp) τC → RowsIs τC 431 (rowsOfL mid) → AX σ τC → ∀ (q j : Nat) (k : Int) (τ : TS), j + q = mid.length → k = j → RowsTo τ 82 (rowsOfL mid) j → RSame (fun k => 82 ≤ k ∧ k < 123) τC τ → TFr [] [6] τC τ → TW (d + 4) tc_exchange 73 [some (.inr 0), some (.inl mid.length), some (.inl k)] [] τ (ActQ σ (.inr (pre ++ mkL n h ++ post, pre.length + h.length, rowsOfL mid, o, fi, unmL m (idsOfL mid), n + h.length, rp))) := by
        intro τC hAC hrC hxC q
        induction q with
        | zero =>
          intro j k τ hj hk hr hs hfr
          (repeat (first | (refine TW.getf rfl rfl rfl (fun _ => ?_)) | (refine TW.pl rfl rfl ?_)))
          refine TW.br rfl rfl (by first | omega | exact b2i_R _ | exact ⟨b2i_R _, by omega⟩) (fun q2 => ?_) (fun q2 => ?_)
          · (repeat (first | (refine TW.getf rfl rfl rfl (fun _ => ?_)) | (refine TW.pl rfl rfl ?_)))
            refine TW.putf rfl rfl (by omega) ?_
            (repeat (first | (refine TW.getf rfl rfl rfl (fun _ => ?_)) | (refine TW.pl rfl rfl ?_)))
            have hf2 : TFr [14] [6] τC (ts1 τ 14 mid.length) := (hfr.mono (fs' := [14]) (as' := [6]) (by decide) (by decide)).ts1 (by decide)
            refine TW.iret rfl ⟨hxC.trans (AX.row hf2 (P := fun k => 82 ≤ k ∧ k < 123) hs.t1 (by decide) (by decide) (fun k z => by omega)), rfl, hAC.held ⟨?_, ?_, ?_⟩ hf2 (fun k z => hs k (fun y => z (Or.inl y))) (by decide) (by decide)⟩
            · rw [ts1_eq, rowsOfL_len]
            · rw [rowsOfL_len]; omega
            · intro i hi
              rw [rowsOfL_len] at hi
              exact RowIs.ts1 (hr i (by omega))
          · omega
        | succ q ih =>
          intro j k τ hj hk hr hs hfr
          (repeat (first | (refine TW.getf rfl rfl rfl (fun _ => ?_)) | (refine TW.pl rfl rfl ?_)))
          refine TW.br rfl rfl (by first | omega | exact b2i_R _ | exact ⟨b2i_R _, by omega⟩) (fun q2 => ?_) (fun q2 => ?_)
          · omega
          (repeat (first | (refine TW.getf rfl rfl rfl (fun _ => ?_)) | (refine TW.pl rfl rfl ?_)))
          refine TW.cv2 rfl rfl rfl (Nat.le_of_ble_eq_true rfl) (T_cpRow (a := 431 + j) (b := 82 + j) ((hrC j (by rw [rowsOfL_len]; omega)).same hs (by omega)) (by omega) (by omega) (by omega) (by omega)) ?_
          rintro _ τ1 ⟨rfl, hr1, hs1, hf1⟩
          (iterate 2 (first | (refine TW.getf rfl rfl rfl (fun _ => ?_)) | (refine TW.pl rfl rfl ?_)))
          exact ih (j + 1) (k + 1) τ1 (by omega) (by omega) (hr.snoc hr1 rfl hs1) (fun i hi => (hs1 i (fun z => hi (by omega))).trans (hs i hi)) (hfr.trans hf1)
      -- what was held comes
      have midl : ∀ (q j : Nat) (k : Int) (pre' : List SLine) (n' : Int) (τ : TS), j + q = h.length → k = j → pre'.length = pre.length + j → TA (pre' ++ post, p, h, o, fi, unmL m (idsOfL mid), n', rp) τ → pre' ++ mkL n' (h.drop j) = pre ++ mkL n h → n' + q = n + h.length → RowsIs τ 431 (rowsOfL mid) → AX σ τ → τ.1 42 = pre.length + 1 → TW (d + 4) tc_exchange 45 [some (.inr 0), some (.inl mid.length), some (.inl k)] [] τ (ActQ σ (.inr (pre ++ mkL n h ++ post, pre.length + h.length, rowsOfL mid, o, fi, unmL m (idsOfL mid), n + h.length, rp))) := by
        intro q
        induction q with
        | zero =>
          intro j k pre' n' τ hj hk hpl hA' he hn' hr hx h42
          obtain ⟨h14', -, -⟩ := hA'.heldR
          rw [show j = h.length by omega, List.drop_length] at he
          simp [mkL] at he hn'
          (repeat (first | (refine TW.getf rfl rfl rfl (fun _ => ?_)) | (refine TW.pl rfl rfl ?_)))
          refine TW.br rfl rfl (by first | omega | exact b2i_R _ | exact ⟨b2i_R _, by omega⟩) (fun q2 => ?_) (fun q2 => ?_)
          · (repeat (first | (refine TW.getf rfl rfl rfl (fun _ => ?_)) | (refine TW.pl rfl rfl ?_)))
            refine TW.putf rfl rfl (by omega) ?_
            (iterate 2 (first | (refine TW.getf rfl rfl rfl (fun _ => ?_)) | (refine TW.pl rfl rfl ?_)))
            rw [he, hn'] at hA'
            have hf2 : TFr [16] [] τ (ts1 τ 16 (τ.1 42 - 1 + τ.1 14)) := TFr.rf.ts1 (by decide)
            refine lastl _ (hA'.pres (by omega)) (fun i hi => RowIs.ts1 (hr i hi)) (hx.trans (AX.fr hf2 (by decide) (by decide) (by decide))) mid.length 0 0 _ (by omega) rfl (fun i hi => absurd hi (Nat.not_lt_zero _)) (fun _ _ => rfl) TFr.rf
          · omega
        | succ q ih =>
          intro j k pre' n' τ hj hk hpl hA' he hn' hr hx h42
          obtain ⟨h14', -, hhr'⟩ := hA'.heldR
          rw [dropc (y := []) (show j < h.length by omega)] at he
          (repeat (first | (refine TW.getf rfl rfl rfl (fun _ => ?_)) | (refine TW.pl rfl rfl ?_)))
          refine TW.br rfl rfl (by first | omega | exact b2i_R _ | exact ⟨b2i_R _, by omega⟩) (fun q2 => ?_) (fun q2 => ?_)
          · omega
          (repeat (first | (refine TW.getf rfl rfl rfl (fun _ => ?_)) | (refine TW.pl rfl rfl ?_)))
          refine TW.cv2 rfl rfl rfl (Nat.le_of_ble_eq_true rfl) (T_bringA (row := 82 + j) hA' (by omega) (hhr' j (by omega)) (by omega) (by omega) (by omega) (by omega)) ?_
          rintro _ τ1 ⟨rfl, hA1, hs1, hf1⟩
          (iterate 2 (first | (refine TW.getf rfl rfl rfl (fun _ => ?_)) | (refine TW.pl rfl rfl ?_)))
          exact ih (j + 1) (k + 1) (pre' ++ [(n', h.getD j [])]) (n' + 1) τ1 (by omega) (by omega) (by simp; omega) (by rw [List.append_assoc]; exact hA1) (by rw [List.append_assoc]; exact he) (by omega) (hr.same hs1 (fun k hk => by omega)) (hx.trans (AX.row hf1 hs1 (by decide) (by decide) (fun k z => by omega))) ((hf1.1 42 (by decide)).trans h42)
      -- rows go aside
      have firstl : ∀ (q j : Nat) (k : Int) (τ : TS), j + q = mid.length → k = j → RowsTo τ 431 (rowsOfL mid) j → RSame (fun k => 431 ≤ k ∧ k < 480) σ τ → TFr [] [6] σ τ → TW (d + 4) tc_exchange 26 [some (.inr 0), some (.inl mid.length), some (.inl k)] [] τ (ActQ σ (.inr (pre ++ mkL n h ++ post, pre.length + h.length, rowsOfL mid, o, fi, unmL m (idsOfL mid), n + h.length, rp))) := by
        intro q
        induction q with
        | zero =>
          intro j k τ hj hk hr hs hfr
          have hj2 : j = mid.length := by omega
          subst hj2
          have hA' := hA.rs hfr hs (by decide) (by decide) (fun k z => by omega)
          have h42 : τ.1 42 = pre.length + 1 := (hfr.1 42 (by decide)).trans hf
          (repeat (first | (refine TW.getf rfl rfl rfl (fun _ => ?_)) | (refine TW.pl rfl rfl ?_)))
          refine TW.br rfl rfl (by first | omega | exact b2i_R _ | exact ⟨b2i_R _, by omega⟩) (fun q2 => ?_) (fun q2 => ?_)
          · (repeat (first | (refine TW.getf rfl rfl rfl (fun _ => ?_)) | (refine TW.pl rfl rfl ?_)))
            refine TW.cv0 rfl rfl rfl (Nat.le_of_ble_eq_true rfl) (T_goAll hA' hid h42 ((hfr.1 43 (by decide)).trans hl)) ?_
            rintro _ τ1 ⟨rfl, hA1, hs1, hf1⟩
            (iterate 2 (first | (refine TW.getf rfl rfl rfl (fun _ => ?_)) | (refine TW.pl rfl rfl ?_)))
            refine midl h.length 0 0 pre n τ1 (by omega) rfl (by omega) hA1 rfl rfl ?_ ((AX.row hfr hs (by decide) (by decide) (fun k z => by omega)).trans (AX.row hf1 hs1 (by decide) (by decide) (fun k z => by omega))) ((hf1.1 42 (by decide)).trans h42)
            intro i hi
            rw [rowsOfL_len] at hi
            exact (hr i hi).same hs1 (by omega)
          · omega
        | succ q ih =>
          intro j k τ hj hk hr hs hfr
          have h42 : τ.1 42 = pre.length + 1 := (hfr.1 42 (by decide)).trans hf
          (repeat (first | (refine TW.getf rfl rfl rfl (fun _ => ?_)) | (refine TW.pl rfl rfl ?_)))
          refine TW.br rfl rfl (by first | omega | exact b2i_R _ | exact ⟨b2i_R _, by omega⟩) (fun q2 => ?_) (fun q2 => ?_)
          · omega
          (repeat (first | (refine TW.getf rfl rfl rfl (fun _ => ?_)) | (refine TW.pl rfl rfl ?_)))
          refine TW.cs1 rfl rfl rfl (Nat.le_of_ble_eq_true rfl) (T_textRow (k := pre.length + j) (by omega) (by omega)) ?_; rintro _ _ ⟨rfl, rfl⟩
          (repeat (first | (refine TW.getf rfl rfl rfl (fun _ => ?_)) | (refine TW.pl rfl rfl ?_)))
          refine TW.cv2 rfl rfl rfl (Nat.le_of_ble_eq_true rfl) (T_cpRow (a := pre.length + j) (b := 431 + j) ((hA.1.midRow (i := j) (by omega)).1.same hs (by omega)) rfl (by omega) (by omega) (by omega)) ?_
          rintro _ τ1 ⟨rfl, hr1, hs1, hf1⟩
          (iterate 2 (first | (refine TW.getf rfl rfl rfl (fun _ => ?_)) | (refine TW.pl rfl rfl ?_)))
          exact ih (j + 1) (k + 1) τ1 (by omega) (by omega) (hr.snoc hr1 rowsOfL_getD.symm hs1) (fun i hi => (hs1 i (fun z => hi (by omega))).trans (hs i hi)) (hfr.trans hf1)
      exact firstl mid.length 0 0 σ (by omega) rfl (fun i hi => absurd hi (Nat.not_lt_zero _)) (fun _ _ => rfl) TFr.rf
    · rw [if_pos (by omega)]
      (repeat (first | (refine TW.getf rfl rfl rfl (fun _ => ?_)) | (refine TW.pl rfl rfl ?_)))
      exact TW.iret rfl ⟨AX.rf, rfl⟩
  · have : h = [] := List.length_eq_zero_iff.mp (by omega)
    rw [if_pos this]
    (repeat (first | (refine TW.getf rfl rfl rfl (fun _ => ?_)) | (refine TW.pl rfl rfl ?_)))
    exact TW.iret rfl ⟨AX.rf, rfl⟩
theorem LinQ.inl {R : Nat ⊕ Nat} {r : Option Int} (hq : LinQ σ R r τ) {w : Nat} (e : R = .inl w) : r = some (-(w : Int)) := by
  have := hq.2; rw [e] at this; exact this
theorem LinQ.inr {R : Nat ⊕ Nat} {r : Option Int} (hq : LinQ σ R r τ) {v : Nat} (e : R = .inr v) : r = some (v : Int) := by
  have := hq.2; rw [e] at this; exact this
theorem AX.lin (hf : TFr fL aLn σ τ) : AX σ τ := AX.fr hf (by decide) (by decide) (by decide)
theorem T_copyTo {x : Int} {a : SAdr} {l' : List Int} (hs : SgnIs σ s) (hA : TA (pre ++ mid ++ post, p, h, o, fi, m, n, rp) σ) (hw : WF (pre ++ mid ++ post, p, h, o, fi, m, n, rp)) (hx : Sfx s l x) (hpa : pAdr l = .inr (l', a)) (hf : (σ.1 42) = pre.length + 1) (hl : (σ.1 43) = pre.length + mid.length) (hn : 0 ≤ n ∧ n < 900000) : TM (d + 9) tk_copyTo [.inr 0, .inl x] σ (ActQ σ (match sAdr (pre ++ mid ++ post, p, h, o, fi, m, n, rp) a with
    | .inl w => .inl w
    | .inr to => sIns (pre ++ mid ++ post, p, h, o, fi, m, n, rp) to (rowsOfL mid))) := by
  obtain ⟨h12, h40⟩ := hA.lenM
  refine TM.of rfl rfl ?_
  (repeat (first | (refine TW.getf rfl rfl rfl (fun _ => ?_)) | (refine TW.pl rfl rfl ?_)))
  refine TW.cv1 rfl rfl rfl (Nat.le_of_ble_eq_true rfl) (T_line hs hA hw hx hpa (by show n < 1000000; omega)) ?_
  intro r τ1 hq
  have hf1 := hq.1
  have hA1 := hA.fr hf1 (by decide) (by decide)
  have h42 : τ1.1 42 = pre.length + 1 := (hf1.1 42 (by decide)).trans hf
  have h43 : τ1.1 43 = pre.length + mid.length := (hf1.1 43 (by decide)).trans hl
  have h12' : τ1.1 12 = pre.length + mid.length + post.length := (hf1.1 12 (by decide)).trans h12
  cases e : sAdr (pre ++ mid ++ post, p, h, o, fi, m, n, rp) a with
  | inl w =>
    have hr := hq.inl e
    have hw1 := sAdr_pos e
    subst hr
    dsimp only
    (repeat (first | (refine TW.getf rfl rfl rfl (fun _ => ?_)) | (refine TW.pl rfl rfl ?_)))
    refine TW.br rfl rfl (by first | omega | exact b2i_R _ | exact ⟨b2i_R _, by omega⟩) (fun q0 => ?_) (fun q0 => ?_)
    · omega
    · (repeat (first | (refine TW.getf rfl rfl rfl (fun _ => ?_)) | (refine TW.pl rfl rfl ?_)))
      refine TW.iret rfl ⟨AX.lin hf1, ?_⟩
      exact congrArg some (by omega)
  | inr to =>
    have hr := hq.inr e
    have hto := sAdr_R e
    simp at hto
    subst hr
    dsimp only
    obtain ⟨pre2, post2, ht2, hpl2⟩ : ∃ pre2 post2, pre ++ mid ++ post = pre2 ++ post2 ∧ pre2.length = to := ⟨(pre ++ mid ++ post).take to, (pre ++ mid ++ post).drop to, (List.take_append_drop _ _).symm, by rw [List.length_take]; simp; omega⟩
    have hlen2 : pre2.length + post2.length = pre.length + mid.length + post.length := by have := congrArg List.length ht2; simp at this; omega
    subst hpl2
    (repeat (first | (refine TW.getf rfl rfl rfl (fun _ => ?_)) | (refine TW.pl rfl rfl ?_)))
    refine TW.br rfl rfl (by first | omega | exact b2i_R _ | exact ⟨b2i_R _, by omega⟩) (fun q0 => ?_) (fun q0 => ?_)
    · (repeat (first | (refine TW.getf rfl rfl rfl (fun _ => ?_)) | (refine TW.pl rfl rfl ?_)))
      have hrw : τ1.1 43 - τ1.1 42 + 1 = mid.length := by omega
      rw [hrw]
      refine TW.br rfl rfl (by first | omega | exact b2i_R _ | exact ⟨b2i_R _, by omega⟩) (fun q1 => ?_) (fun q1 => ?_)
      · have e2 : sIns (pre ++ mid ++ post, p, h, o, fi, m, n, rp) pre2.length (rowsOfL mid) = .inr (pre2 ++ mkL n (rowsOfL mid) ++ post2, pre2.length + mid.length, h, o, fi, m, n + mid.length, rp) := by
          rw [ht2, sIns_z, if_neg (by rw [rowsOfL_len]; omega), rowsOfL_len]
        rw [e2]
        (iterate 2 (first | (refine TW.getf rfl rfl rfl (fun _ => ?_)) | (refine TW.pl rfl rfl ?_)))
        have midl : ∀ (q j : Nat) (k : Int) (pre' : List SLine) (n' : Int) (τ : TS), j + q = mid.length → k = j → pre'.length = pre2.length + j → TA (pre' ++ post2, p, h, o, fi, m, n', rp) τ → pre' ++ mkL n' ((rowsOfL mid).drop j) = pre2 ++ mkL n (rowsOfL mid) → n' + q = n + mid.length → RowsIs τ 431 (rowsOfL mid) → AX σ τ → TW (d + 8) tc_copyTo 44 [some (.inr 0), some (.inl x), some (.inl pre2.length), some (.inl mid.length), some (.inl k)] [] τ (ActQ σ (.inr (pre2 ++ mkL n (rowsOfL mid) ++ post2, pre2.length + mid.length, h, o, fi, m, n + mid.length, rp))) := by
          intro q
          induction q with
          | zero =>
            intro j k pre' n' τ hj hk hpl hA' he hn' hr hx
            rw [show j = (rowsOfL mid).length by rw [rowsOfL_len]; omega, List.drop_length] at he
            simp [mkL] at he hn'
            (repeat (first | (refine TW.getf rfl rfl rfl (fun _ => ?_)) | (refine TW.pl rfl rfl ?_)))
            refine TW.br rfl rfl (by first | omega | exact b2i_R _ | exact ⟨b2i_R _, by omega⟩) (fun q2 => ?_) (fun q2 => ?_)
            · (repeat (first | (refine TW.getf rfl rfl rfl (fun _ => ?_)) | (refine TW.pl rfl rfl ?_)))
              refine TW.putf rfl rfl (by omega) ?_
              (repeat (first | (refine TW.getf rfl rfl rfl (fun _ => ?_)) | (refine TW.pl rfl rfl ?_)))
              rw [← he, ← hn']
              have hf2 : TFr [16] [] τ (ts1 τ 16 (pre2.length + mid.length)) := TFr.rf.ts1 (by decide)
              exact TW.iret rfl ⟨hx.trans (AX.fr hf2 (by decide) (by decide) (by decide)), rfl, hA'.pres (by omega)⟩
            · omega
          | succ q ih =>
            intro j k pre' n' τ hj hk hpl hA' he hn' hr hx
            rw [dropc (y := []) (show j < (rowsOfL mid).length by rw [rowsOfL_len]; omega)] at he
            (repeat (first | (refine TW.getf rfl rfl rfl (fun _ => ?_)) | (refine TW.pl rfl rfl ?_)))
            refine TW.br rfl rfl (by first | omega | exact b2i_R _ | exact ⟨b2i_R _, by omega⟩) (fun q2 => ?_) (fun q2 => ?_)
            · omega
            (repeat (first | (refine TW.getf rfl rfl rfl (fun _ => ?_)) | (refine TW.pl rfl rfl ?_)))
            refine TW.cv2 rfl rfl rfl (Nat.le_of_ble_eq_true rfl) (T_bringA (row := 431 + j) hA' (by omega) (hr j (by rw [rowsOfL_len]; omega)) (by omega) (by omega) (by omega) (by omega)) ?_
            rintro _ τ2 ⟨rfl, hA2, hs2, hf2⟩
            (iterate 2 (first | (refine TW.getf rfl rfl rfl (fun _ => ?_)) | (refine TW.pl rfl rfl ?_)))
            exact ih (j + 1) (k + 1) (pre' ++ [(n', (rowsOfL mid).getD j [])]) (n' + 1) τ2 (by omega) (by omega) (by simp; omega) (by rw [List.append_assoc]; exact hA2) (by rw [List.append_assoc]; exact he) (by omega) (hr.same hs2 (fun k hk => by omega)) (hx.trans (AX.row hf2 hs2 (by decide) (by decide) (fun k z => by omega)))
        have firstl : ∀ (q j : Nat) (k : Int) (τ : TS), j + q = mid.length → k = j → RowsTo τ 431 (rowsOfL mid) j → RSame (fun k => 431 ≤ k ∧ k < 480) τ1 τ → TFr [] [6] τ1 τ → TW (d + 8) tc_copyTo 27 [some (.inr 0), some (.inl x), some (.inl pre2.length), some (.inl mid.length), some (.inl k)] [] τ (ActQ σ (.inr (pre2 ++ mkL n (rowsOfL mid) ++ post2, pre2.length + mid.length, h, o, fi, m, n + mid.length, rp))) := by
          intro q
          induction q with
          | zero =>
            intro j k τ hj hk hr hs hfr
            have hj2 : j = mid.length := by omega
            subst hj2
            have hA' := hA1.rs hfr hs (by decide) (by decide) (fun k z => by omega)
            rw [ht2] at hA'
            (repeat (first | (refine TW.getf rfl rfl rfl (fun _ => ?_)) | (refine TW.pl rfl rfl ?_)))
            refine TW.br rfl rfl (by first | omega | exact b2i_R _ | exact ⟨b2i_R _, by omega⟩) (fun q2 => ?_) (fun q2 => ?_)
            · (iterate 2 (first | (refine TW.getf rfl rfl rfl (fun _ => ?_)) | (refine TW.pl rfl rfl ?_)))
              exact midl mid.length 0 0 pre2 n τ (by omega) rfl (by omega) hA' rfl rfl (fun i hi => hr i (by rw [rowsOfL_len] at hi; exact hi)) ((AX.lin hf1).trans (AX.row hfr hs (by decide) (by decide) (fun k z => by omega)))
            · omega
          | succ q ih =>
            intro j k τ hj hk hr hs hfr
            have h42' : τ.1 42 = pre.length + 1 := (hfr.1 42 (by decide)).trans h42
            (repeat (first | (refine TW.getf rfl rfl rfl (fun _ => ?_)) | (refine TW.pl rfl rfl ?_)))
            refine TW.br rfl rfl (by first | omega | exact b2i_R _ | exact ⟨b2i_R _, by omega⟩) (fun q2 => ?_) (fun q2 => ?_)
            · omega
            (repeat (first | (refine TW.getf rfl rfl rfl (fun _ => ?_)) | (refine TW.pl rfl rfl ?_)))
            refine TW.cs1 rfl rfl rfl (Nat.le_of_ble_eq_true rfl) (T_textRow (k := pre.length + j) (by omega) (by omega)) ?_; rintro _ _ ⟨rfl, rfl⟩
            (repeat (first | (refine TW.getf rfl rfl rfl (fun _ => ?_)) | (refine TW.pl rfl rfl ?_)))
            refine TW.cv2 rfl rfl rfl (Nat.le_of_ble_eq_true rfl) (T_cpRow (a := pre.length + j) (b := 431 + j) ((hA1.1.midRow (i := j) (by omega)).1.same hs (by omega)) rfl (by omega) (by omega) (by omega)) ?_
            rintro _ τ2 ⟨rfl, hr2, hs2, hf2⟩
            (iterate 2 (first | (refine TW.getf rfl rfl rfl (fun _ => ?_)) | (refine TW.pl rfl rfl ?_)))
            exact ih (j + 1) (k + 1) τ2 (by omega) (by omega) (hr.snoc hr2 rowsOfL_getD.symm hs2) (fun i hi => (hs2 i (fun z => hi (by omega))).trans (hs i hi)) (hfr.trans hf2)
        exact firstl mid.length 0 0 τ1 (by omega) rfl (fun i hi => absurd hi (Nat.not_lt_zero _)) (fun _ _ => rfl) TFr.rf
      · have e2 : sIns (pre ++ mid ++ post, p, h, o, fi, m, n, rp) pre2.length (rowsOfL mid) = .inl 4 := by
          rw [ht2, sIns_z, if_pos (by rw [rowsOfL_len]; omega)]
        rw [e2]
        (repeat (first | (refine TW.getf rfl rfl rfl (fun _ => ?_)) | (refine TW.pl rfl rfl ?_)))
        exact TW.iret rfl ⟨AX.lin hf1, rfl⟩
    · omega
theorem T_closeA {x : SLine} {v : Int} (hA : TA (pre ++ x :: post, p, h, o, fi, m, n, rp) σ) (hv : v = pre.length + 1) : TM (d + 2) tk_close [.inr 0, .inl v] σ (fun r τ => r = none ∧ TA (pre ++ post, p, h, o, fi, m, n, rp) τ ∧ RSame (fun k => k < 41) σ τ ∧ TFr [12] [6, 7] σ τ) := by
  have hl : 1 ≤ pre.length + 1 ∧ pre.length + 1 ≤ (pre ++ x :: post).length := by rw [zlen]; omega
  have := T_close (d := d) (l := pre.length + 1) hA.1.1 hA.1.2.1 hl
  rw [hv]
  refine this.mono (Nat.le_refl _) (fun r τ q => ?_)
  obtain ⟨q0, υ, hc, q2⟩ := q
  have hT : TextIs τ (pre ++ post) := by
    have := hA.1.erase hl hc
    rw [Nat.add_sub_cancel, zera] at this
    rw [q2]
    exact this
  have hf : TFr [12] [6, 7] σ τ := by
    rw [q2]
    exact TFr.ts1 ⟨fun k _ => by rw [hc.1], fun a ha => hc.2.2.2 a ha⟩ (by decide)
  have hs : RSame (fun k => k < 41) σ τ := fun j hj => by
    rw [q2, ts1_2, hc.same j (fun z => hj (by have := hA.1.2.1; omega))]
  exact ⟨q0, hA.upd hT (hA.2.2.2.1.fr (hf.2 10 (by decide))) ((hf.1 17 (by decide)).trans hA.2.2.2.2.1) hf hs (by decide) (by decide) (fun k z => Or.inl (by omega)), hs, hf⟩
theorem TextIs.opened {row b iz : Nat} {xs : List Int} {υ τ1 : TS} {id : Int} (ht : TextIs σ t) (hn : t.length < 40) (hb : b ≤ t.length) (hr : RowIs σ row xs) (hrow : 41 ≤ row) (ho : OpK σ υ t.length b) (hcp : CpK (ts1 υ 12 (t.length + 1)) τ1 row b 31) (hiz : iz = b) : TextIs (ts2 τ1 7 iz id) (linIns t b (id, xs)) ∧ RSame (fun k => k < 41) σ (ts2 τ1 7 iz id) ∧ TFr [12] [6, 7] σ (ts2 τ1 7 iz id) := by
  subst hiz
  obtain ⟨t1, t2, t3⟩ := ht
  have hsr : RSame (fun k => k < 41) σ τ1 := fun j hj => by
    rw [hcp.same (n := iz) rfl j (by omega), ts1_2, ho.same j (by omega)]
  refine ⟨⟨?_, ?_, fun k hk => ?_⟩, fun j hj => ?_, ?_⟩
  · rw [linIns_len hb, ts2_1, hcp.1, ts1_eq]; omega
  · rw [linIns_len hb]; omega
  · rw [linIns_len hb] at hk
    have e7 : ∀ i, τ1.2 7 i = υ.2 7 i := fun i => by rw [hcp.2, if_neg (by omega), ts1_2]
    rw [ts2_at, e7]
    rcases Nat.lt_trichotomy k iz with z | z | z
    · rw [linIns_lt hb z, if_neg (by omega), ho.2.2.1, if_neg (by omega)]
      refine ⟨RowIs.ts2 ?_ (by decide), (t3 k (by omega)).2⟩
      exact (RowIs.ts1 ((t3 k (by omega)).1.same ho.same (by omega))).same (hcp.same (n := iz) rfl) (by omega)
    · subst z
      rw [linIns_eq hb, if_pos rfl]
      exact ⟨RowIs.ts2 (CpK.row hcp (RowIs.ts1 (hr.same ho.same (by omega)))) (by decide), rfl⟩
    · rw [linIns_gt hb z, if_neg (by omega), ho.2.2.1, if_pos (by omega)]
      refine ⟨RowIs.ts2 ?_ (by decide), (t3 (k - 1) (by omega)).2⟩
      have := ho.row (t3 (k - 1) (by omega)).1 (by omega)
      rw [show k - 1 + 1 = k by omega] at this
      exact (RowIs.ts1 this).same (hcp.same rfl) (by omega)
  · rw [ts2_ne (by decide)]; exact hsr j hj
  · refine TFr.ts2 ⟨fun k hk => ?_, fun a ha => ?_⟩ (by decide)
    · rw [hcp.1, ts1_ne (fun z => hk (by rw [z]; decide)), ho.1]
    · rw [hcp.fr.2 a (fun z => ha (by simp at z ⊢; exact Or.inl z)), ts1_2]; exact ho.2.2.2 a ha
theorem T_cpK {a b : Nat} {u v : Int} (hu : u = a) (hv : v = b) (ha : a < 868) (hb : b < 868) : TM (d + 1) tk_copyRow [.inr 0, .inl u, .inl v] σ (fun r τ => r = none ∧ CpK σ τ a b 31) := by
  subst hu hv
  exact T_copyRow (by omega) (by omega)
theorem T_openV {b m' : Nat} {v : Int} (hv : v = b) (hm : (σ.1 12) = m') (hm40 : m' ≤ 40) (hb : b ≤ m') : TM (d + 2) tk_open [.inr 0, .inl v] σ (fun r τ => r = none ∧ ∃ υ, OpK σ υ m' b ∧ τ = ts1 υ 12 (m' + 1)) := by
  subst hv
  exact T_open hm hm40 hb
theorem T_move {x : Int} {a : SAdr} {l' : List Int} (hs : SgnIs σ s) (hA : TA (pre ++ mid ++ post, p, h, o, fi, m, n, rp) σ) (hw : WF (pre ++ mid ++ post, p, h, o, fi, m, n, rp)) (hx : Sfx s l x) (hpa : pAdr l = .inr (l', a)) (hf : (σ.1 42) = pre.length + 1) (hl : (σ.1 43) = pre.length + mid.length) (hn : 0 ≤ n ∧ n < 900000) : TM (d + 9) tk_move [.inr 0, .inl x] σ (ActQ σ (match sAdr (pre ++ mid ++ post, p, h, o, fi, m, n, rp) a with
    | .inl w => .inl w
    | .inr to => sMove (pre ++ mid ++ post, p, h, o, fi, m, n, rp) (pre.length + 1) (pre.length + mid.length) to)) := by
  obtain ⟨h12, h40⟩ := hA.lenM
  refine TM.of rfl rfl ?_
  (repeat (first | (refine TW.getf rfl rfl rfl (fun _ => ?_)) | (refine TW.pl rfl rfl ?_)))
  refine TW.cv1 rfl rfl rfl (Nat.le_of_ble_eq_true rfl) (T_line hs hA hw hx hpa (by show n < 1000000; omega)) ?_
  intro r τ1 hq
  have hf1 := hq.1
  have hA1 := hA.fr hf1 (by decide) (by decide)
  have h42 : τ1.1 42 = pre.length + 1 := (hf1.1 42 (by decide)).trans hf
  have h43 : τ1.1 43 = pre.length + mid.length := (hf1.1 43 (by decide)).trans hl
  cases e : sAdr (pre ++ mid ++ post, p, h, o, fi, m, n, rp) a with
  | inl w =>
    have hr := hq.inl e
    have hw1 := sAdr_pos e
    subst hr
    dsimp only
    (repeat (first | (refine TW.getf rfl rfl rfl (fun _ => ?_)) | (refine TW.pl rfl rfl ?_)))
    refine TW.br rfl rfl (by first | omega | exact b2i_R _ | exact ⟨b2i_R _, by omega⟩) (fun q0 => ?_) (fun q0 => ?_)
    · omega
    · (repeat (first | (refine TW.getf rfl rfl rfl (fun _ => ?_)) | (refine TW.pl rfl rfl ?_)))
      refine TW.iret rfl ⟨AX.lin hf1, ?_⟩
      exact congrArg some (by omega)
  | inr to =>
    have hr := hq.inr e
    have hto := sAdr_R e
    simp at hto
    subst hr
    dsimp only
    (repeat (first | (refine TW.getf rfl rfl rfl (fun _ => ?_)) | (refine TW.pl rfl rfl ?_)))
    refine TW.br rfl rfl (by first | omega | exact b2i_R _ | exact ⟨b2i_R _, by omega⟩) (fun q0 => ?_) (fun q0 => ?_)
    · (repeat (first | (refine TW.getf rfl rfl rfl (fun _ => ?_)) | (refine TW.pl rfl rfl ?_)))
      have hrw : τ1.1 43 - τ1.1 42 + 1 = mid.length := by omega
      rw [hrw]
      have e2 : ¬ (pre.length + 1 ≤ to ∧ to < pre.length + mid.length) → ∃ q1 q2, pre ++ post = q1 ++ q2 ∧ q1.length = (if to < pre.length + 1 then to else to - mid.length) ∧ sMove (pre ++ mid ++ post, p, h, o, fi, m, n, rp) (pre.length + 1) (pre.length + mid.length) to = .inr (q1 ++ mid ++ q2, q1.length + mid.length, h, o, fi, m, n, rp) := by
        intro hne
        have e3 : (pre ++ mid ++ post).take (pre.length + 1 - 1) = pre := by rw [Nat.add_sub_cancel, List.append_assoc, List.take_left' rfl]
        have e4 : (pre ++ mid ++ post).drop (pre.length + mid.length) = post := List.drop_left' (by simp)
        have e5 : seg (pre ++ mid ++ post) (pre.length + 1) (pre.length + mid.length) = mid := by
          unfold seg
          rw [Nat.add_sub_cancel, List.append_assoc, List.drop_left' rfl, List.take_left' (by omega)]
        have e6 : pre.length + mid.length + 1 - (pre.length + 1) = mid.length := by omega
        have e7 : ((pre ++ post).take (if to < pre.length + 1 then to else to - mid.length)).length = (if to < pre.length + 1 then to else to - mid.length) := by
          rw [List.length_take]
          simp
          split <;> omega
        refine ⟨(pre ++ post).take (if to < pre.length + 1 then to else to - mid.length), (pre ++ post).drop (if to < pre.length + 1 then to else to - mid.length), (List.take_append_drop _ _).symm, e7, ?_⟩
        unfold sMove
        dsimp only
        rw [if_neg hne, e3, e4, e5, e6, e7]
      have go : ¬ (pre.length + 1 ≤ to ∧ to < pre.length + mid.length) → TW (d + 8) tc_move 27 [some (.inr 0), some (.inl x), some (.inl to), some (.inl mid.length), none, none] [] τ1 (ActQ σ (sMove (pre ++ mid ++ post, p, h, o, fi, m, n, rp) (pre.length + 1) (pre.length + mid.length) to)) := by
        intro hne
        obtain ⟨q1, q2, hq12, hq1, hsm⟩ := e2 hne
        have hlq : q1.length + q2.length = pre.length + post.length := by have := congrArg List.length hq12; simp at this; omega
        rw [hsm]
        have lastl : ∀ (q j : Nat) (k : Int) (p1 : List SLine) (τ : TS), j + q = mid.length → k = j → p1.length = q1.length + j → TA (p1 ++ q2, p, h, o, fi, m, n, rp) τ → p1 ++ mid.drop j = q1 ++ mid → RowsIs τ 431 (rowsOfL mid) → (∀ i, i < mid.length → τ.2 9 i = (mid.getD i (0, [])).1) → AX σ τ → TW (d + 8) tc_move 80 [some (.inr 0), some (.inl x), some (.inl to), some (.inl mid.length), some (.inl q1.length), some (.inl k)] [] τ (ActQ σ (.inr (q1 ++ mid ++ q2, q1.length + mid.length, h, o, fi, m, n, rp))) := by
          intro q
          induction q with
          | zero =>
            intro j k p1 τ hj hk hpl hA' he hr h9 hxx
            rw [show j = mid.length by omega, List.drop_length, List.append_nil] at he
            (repeat (first | (refine TW.getf rfl rfl rfl (fun _ => ?_)) | (refine TW.pl rfl rfl ?_)))
            refine TW.br rfl rfl (by first | omega | exact b2i_R _ | exact ⟨b2i_R _, by omega⟩) (fun q2 => ?_) (fun q2 => ?_)
            · (repeat (first | (refine TW.getf rfl rfl rfl (fun _ => ?_)) | (refine TW.pl rfl rfl ?_)))
              refine TW.putf rfl rfl (by omega) ?_
              (repeat (first | (refine TW.getf rfl rfl rfl (fun _ => ?_)) | (refine TW.pl rfl rfl ?_)))
              rw [← he]
              have hf2 : TFr [16] [] τ (ts1 τ 16 (q1.length + mid.length)) := TFr.rf.ts1 (by decide)
              exact TW.iret rfl ⟨hxx.trans (AX.fr hf2 (by decide) (by decide) (by decide)), rfl, hA'.pres (by omega)⟩
            · omega
          | succ q ih =>
            intro j k p1 τ hj hk hpl hA' he hr h9 hxx
            rw [dropc (y := (0, [])) (show j < mid.length by omega)] at he
            obtain ⟨h12', h40'⟩ := hA'.len2
            (repeat (first | (refine TW.getf rfl rfl rfl (fun _ => ?_)) | (refine TW.pl rfl rfl ?_)))
            refine TW.br rfl rfl (by first | omega | exact b2i_R _ | exact ⟨b2i_R _, by omega⟩) (fun qz => ?_) (fun qz => ?_)
            · omega
            (repeat (first | (refine TW.getf rfl rfl rfl (fun _ => ?_)) | (refine TW.pl rfl rfl ?_)))
            refine TW.cv1 rfl rfl rfl (Nat.le_of_ble_eq_true rfl) (T_openV (b := p1.length) (m' := (p1 ++ q2).length) (by omega) hA'.1.1 hA'.1.2.1 (by simp)) ?_
            rintro _ _ ⟨rfl, υ, ho, rfl⟩
            (repeat (first | (refine TW.getf rfl rfl rfl (fun _ => ?_)) | (refine TW.pl rfl rfl ?_)))
            refine TW.cv2 rfl rfl rfl (Nat.le_of_ble_eq_true rfl) (T_cpK (a := 431 + j) (b := p1.length) (by omega) (by omega) (by omega) (by omega)) ?_
            rintro _ τ2 ⟨rfl, hcp⟩
            have e9 : ∀ i, τ2.2 9 i = τ.2 9 i := fun i => by rw [hcp.2, if_neg (by omega), ts1_2, ho.2.2.2 9 (by decide)]
            (repeat (first | (refine TW.getf rfl rfl rfl (fun _ => ?_)) | (refine TW.pl rfl rfl ?_)))
            refine TW.iald (n := 41) rfl rfl rfl (by omega) (fun _ => ?_)
            refine TW.iast (n := 41) rfl rfl rfl (by omega) (by omega) ?_
            rw [e9]
            obtain ⟨hT, hs2, hf2⟩ := hA'.1.opened (id := τ.2 9 k.toNat) (by simp; omega) (by simp) (hr j (by rw [rowsOfL_len]; omega)) (by omega) ho hcp (iz := (((q1.length : Nat) : Int) + k).toNat) (by omega)
            rw [zins] at hT
            have e10 : τ.2 9 k.toNat = (mid.getD j (0, [])).1 := (tix (by omega)).trans (h9 j (by omega))
            rw [rowsOfL_getD, e10] at hT
            rw [e10] at hs2 hf2 ⊢
            (iterate 2 (first | (refine TW.getf rfl rfl rfl (fun _ => ?_)) | (refine TW.pl rfl rfl ?_)))
            refine ih (j + 1) (k + 1) (p1 ++ [mid.getD j (0, [])]) _ (by omega) (by omega) (by simp; omega) ?_ (by rw [List.append_assoc]; exact he) (hr.same hs2 (fun k hk => by omega)) (fun i hi => by rw [hf2.2 9 (by decide)]; exact h9 i hi) (hxx.trans (AX.row hf2 hs2 (by decide) (by decide) (fun k z => by omega)))
            rw [List.append_assoc]
            exact hA'.upd hT (hA'.2.2.2.1.fr (hf2.2 10 (by decide))) ((hf2.1 17 (by decide)).trans hA'.2.2.2.2.1) hf2 hs2 (by decide) (by decide) (fun k z => Or.inl (by omega))
        have midl : ∀ (ms : List SLine) (k : Int) (τ : TS), k + ms.length = mid.length → 0 ≤ k → TA (pre ++ ms ++ post, p, h, o, fi, m, n, rp) τ → RowsIs τ 431 (rowsOfL mid) → (∀ i, i < mid.length → τ.2 9 i = (mid.getD i (0, [])).1) → AX σ τ → τ.1 42 = pre.length + 1 → TW (d + 8) tc_move 59 [some (.inr 0), some (.inl x), some (.inl to), some (.inl mid.length), some (.inl k), none] [] τ (ActQ σ (.inr (q1 ++ mid ++ q2, q1.length + mid.length, h, o, fi, m, n, rp))) := by
          intro ms
          induction ms with
          | nil =>
            intro k τ hk h0 hA' hr h9 hxx h42'
            simp at hk
            rw [List.append_nil, hq12] at hA'
            have fin : ∀ v : Int, v = q1.length → TW (d + 8) tc_move 77 [some (.inr 0), some (.inl x), some (.inl to), some (.inl mid.length), some (.inl k), none] [.inl v] τ (ActQ σ (.inr (q1 ++ mid ++ q2, q1.length + mid.length, h, o, fi, m, n, rp))) := by
              intro v hv
              subst hv
              (iterate 3 (first | (refine TW.getf rfl rfl rfl (fun _ => ?_)) | (refine TW.pl rfl rfl ?_)))
              exact lastl mid.length 0 0 q1 τ (by omega) rfl (by omega) hA' rfl hr h9 hxx
            (repeat (first | (refine TW.getf rfl rfl rfl (fun _ => ?_)) | (refine TW.pl rfl rfl ?_)))
            refine TW.br rfl rfl (by first | omega | exact b2i_R _ | exact ⟨b2i_R _, by omega⟩) (fun qz => ?_) (fun qz => ?_)
            · (repeat (first | (refine TW.getf rfl rfl rfl (fun _ => ?_)) | (refine TW.pl rfl rfl ?_)))
              refine TW.br rfl rfl (by first | omega | exact b2i_R _ | exact ⟨b2i_R _, by omega⟩) (fun qy => ?_) (fun qy => ?_)
              · (iterate 3 (first | (refine TW.getf rfl rfl rfl (fun _ => ?_)) | (refine TW.pl rfl rfl ?_)))
                exact fin _ (by rw [hq1, if_neg (by omega)]; omega)
              · (iterate 2 (first | (refine TW.getf rfl rfl rfl (fun _ => ?_)) | (refine TW.pl rfl rfl ?_)))
                exact fin _ (by rw [hq1, if_pos (by omega)])
            · omega
          | cons y ms ih =>
            intro k τ hk h0 hA' hr h9 hxx h42'
            simp at hk
            rw [List.append_assoc, List.cons_append] at hA'
            (repeat (first | (refine TW.getf rfl rfl rfl (fun _ => ?_)) | (refine TW.pl rfl rfl ?_)))
            refine TW.br rfl rfl (by first | omega | exact b2i_R _ | exact ⟨b2i_R _, by omega⟩) (fun qz => ?_) (fun qz => ?_)
            · omega
            (repeat (first | (refine TW.getf rfl rfl rfl (fun _ => ?_)) | (refine TW.pl rfl rfl ?_)))
            refine TW.cv1 rfl rfl rfl (Nat.le_of_ble_eq_true rfl) (T_closeA hA' h42') ?_
            rintro _ τ2 ⟨rfl, hA2, hs2, hf2⟩
            (iterate 2 (first | (refine TW.getf rfl rfl rfl (fun _ => ?_)) | (refine TW.pl rfl rfl ?_)))
            exact ih (k + 1) τ2 (by omega) (by omega) (by rw [List.append_assoc]; exact hA2) (hr.same hs2 (fun k hk => by omega)) (fun i hi => by rw [hf2.2 9 (by decide)]; exact h9 i hi) (hxx.trans (AX.row hf2 hs2 (by decide) (by decide) (fun k z => by omega))) ((hf2.1 42 (by decide)).trans h42')
        have firstl : ∀ (q j : Nat) (k : Int) (τ : TS), j + q = mid.length → k = j → RowsTo τ 431 (rowsOfL mid) j → (∀ i, i < j → τ.2 9 i = (mid.getD i (0, [])).1) → RSame (fun k => 431 ≤ k ∧ k < 480) τ1 τ → TFr [] [6, 9] τ1 τ → TW (d + 8) tc_move 29 [some (.inr 0), some (.inl x), some (.inl to), some (.inl mid.length), some (.inl k), none] [] τ (ActQ σ (.inr (q1 ++ mid ++ q2, q1.length + mid.length, h, o, fi, m, n, rp))) := by
          intro q
          induction q with
          | zero =>
            intro j k τ hj hk hr h9 hs hfr
            have hj2 : j = mid.length := by omega
            subst hj2
            have hA' := hA1.rs hfr hs (by decide) (by decide) (fun k z => by omega)
            (repeat (first | (refine TW.getf rfl rfl rfl (fun _ => ?_)) | (refine TW.pl rfl rfl ?_)))
            refine TW.br rfl rfl (by first | omega | exact b2i_R _ | exact ⟨b2i_R _, by omega⟩) (fun qz => ?_) (fun qz => ?_)
            · (iterate 2 (first | (refine TW.getf rfl rfl rfl (fun _ => ?_)) | (refine TW.pl rfl rfl ?_)))
              exact midl mid 0 τ (by omega) (by decide) hA' (fun i hi => hr i (by rw [rowsOfL_len] at hi; exact hi)) h9 ((AX.lin hf1).trans (AX.row hfr hs (by decide) (by decide) (fun k z => by omega))) ((hfr.1 42 (by decide)).trans h42)
            · omega
          | succ q ih =>
            intro j k τ hj hk hr h9 hs hfr
            have h42' : τ.1 42 = pre.length + 1 := (hfr.1 42 (by decide)).trans h42
            have hmr := hA1.1.midRow (i := j) (by omega)
            (repeat (first | (refine TW.getf rfl rfl rfl (fun _ => ?_)) | (refine TW.pl rfl rfl ?_)))
            refine TW.br rfl rfl (by first | omega | exact b2i_R _ | exact ⟨b2i_R _, by omega⟩) (fun qz => ?_) (fun qz => ?_)
            · omega
            (repeat (first | (refine TW.getf rfl rfl rfl (fun _ => ?_)) | (refine TW.pl rfl rfl ?_)))
            refine TW.cs1 rfl rfl rfl (Nat.le_of_ble_eq_true rfl) (T_textRow (k := pre.length + j) (by omega) (by omega)) ?_; rintro _ _ ⟨rfl, rfl⟩
            (repeat (first | (refine TW.getf rfl rfl rfl (fun _ => ?_)) | (refine TW.pl rfl rfl ?_)))
            refine TW.cv2 rfl rfl rfl (Nat.le_of_ble_eq_true rfl) (T_cpRow (a := pre.length + j) (b := 431 + j) (hmr.1.same hs (by omega)) rfl (by omega) (by omega) (by omega)) ?_
            rintro _ τ2 ⟨rfl, hr2, hs2, hf2⟩
            have h42'' : τ2.1 42 = pre.length + 1 := (hf2.1 42 (by decide)).trans h42'
            (repeat (first | (refine TW.getf rfl rfl rfl (fun _ => ?_)) | (refine TW.pl rfl rfl ?_)))
            refine TW.iald (n := 41) rfl rfl rfl (by omega) (fun _ => ?_)
            have e7 : τ2.2 7 (τ2.1 42 + k - 1).toNat = (mid.getD j (0, [])).1 := by
              rw [hf2.2 7 (by decide), hfr.2 7 (by decide)]
              exact (tix (by omega)).trans hmr.2
            refine TW.iast (n := 41) rfl rfl rfl (by omega) (by omega) ?_
            rw [e7]
            (iterate 2 (first | (refine TW.getf rfl rfl rfl (fun _ => ?_)) | (refine TW.pl rfl rfl ?_)))
            refine ih (j + 1) (k + 1) _ (by omega) (by omega) (fun i hi => RowIs.ts2 ((hr.snoc hr2 rowsOfL_getD.symm hs2) i hi) (by decide)) (fun i hi => ?_) (fun i hi => ?_) ((hfr.trans (hf2.mono (by decide) (by decide))).ts2 (by decide))
            · rw [ts2_at]
              by_cases ei : i = k.toNat
              · rw [if_pos ei, show i = j by omega]
              · rw [if_neg ei, hf2.2 9 (by decide)]
                exact h9 i (by omega)
            · rw [ts2_ne (by decide)]
              exact (hs2 i (fun z => hi (by omega))).trans (hs i hi)
        (iterate 2 (first | (refine TW.getf rfl rfl rfl (fun _ => ?_)) | (refine TW.pl rfl rfl ?_)))
        exact firstl mid.length 0 0 τ1 (by omega) rfl (fun i hi => absurd hi (Nat.not_lt_zero _)) (fun i hi => absurd hi (Nat.not_lt_zero _)) (fun _ _ => rfl) TFr.rf
      refine TW.br rfl rfl (by first | omega | exact b2i_R _ | exact ⟨b2i_R _, by omega⟩) (fun q1 => ?_) (fun q1 => ?_)
      · exact go (by omega)
      · (repeat (first | (refine TW.getf rfl rfl rfl (fun _ => ?_)) | (refine TW.pl rfl rfl ?_)))
        refine TW.br rfl rfl (by first | omega | exact b2i_R _ | exact ⟨b2i_R _, by omega⟩) (fun q2 => ?_) (fun q2 => ?_)
        · exact go (by omega)
        · have e8 : sMove (pre ++ mid ++ post, p, h, o, fi, m, n, rp) (pre.length + 1) (pre.length + mid.length) to = .inl 1 := by
            unfold sMove
            dsimp only
            rw [if_pos (by omega)]
          rw [e8]
          (repeat (first | (refine TW.getf rfl rfl rfl (fun _ => ?_)) | (refine TW.pl rfl rfl ?_)))
          exact TW.iret rfl ⟨AX.lin hf1, rfl⟩
    · omega
end TMov
