set_option maxRecDepth 100000
/-! the twin's workAct; acts with a work keep a stream in order -/
theorem actsAll {c : Int} (h : [97, 105, 99, 118, 62, 60, 111, 79, 109, 116, 107, 114, 119, 58, 98, 84, 115, 122].contains c = true ∨ isBar c = true) (hout : isOut c = false) (hbar : ¬ (c = 108 ∨ c = 111 ∨ c = 79 ∨ c = 109 ∨ c = 116)) : c = 97 ∨ c = 105 ∨ c = 99 ∨ c = 100 ∨ c = 106 ∨ c = 118 ∨ c = 112 ∨ c = 110 ∨ c = 61 ∨ c = 104 ∨ c = 72 ∨ c = 117 ∨ c = 101 ∨ (c = 62 ∨ c = 60 ∨ c = 115 ∨ c = 122 ∨ c = 114 ∨ c = 119 ∨ c = 107) := by
  have hno := cOut hout
  rcases h with z | z
  · rcases c18 z with z | z | z | z | z | z | z | z | z | z | z | z | z | z | z | z | z | z <;> subst z <;> first | decide | (exact absurd rfl hno.1) | (exact absurd rfl hno.2.1) | (exact absurd rfl hno.2.2.1) | (exact absurd (by decide) hbar)
  · rcases cBare z with z | z | z | z | z | z | z | z | z | z | z | z <;> subst z <;> first | decide | (exact absurd rfl hno.2.2.2.1) | (exact absurd rfl hno.2.2.2.2) | (exact absurd (by decide) hbar)
section TWwf
variable {d : Nat} {σ τ : TS} {s l l1 l2 : List Int} {t pu re : List SLine} {du : List (List Int)} {x : SLine} {W : WG} {B : BG} {fs as : List Nat} {rs : List (List Int)} {xs : List Int} {h o : List (List Int)} {fi : Nat → List (List Int)} {m : Nat → Option Int} {n n0 : Int} {rp : Bool} {od : SOrd0}
theorem T_workAct {x0 : Int} {pos : Nat} {ps : Int} {run : Bool} (hs : SgnIs σ s) (hB : TWB σ t (x, false, du, pu, re) (h, o, fi, m, n, rp)) (hw : WS n0 (x, false, du, pu, re) (h, o, fi, m, n, rp)) (hx : Sfx s l x0) (hl0 : l ≠ []) (hact : oAct od = hd l) (hp : ActP l l1 od) (h48 : ¬ hd l1 = 48) (hout : isOut (hd l) = false) (hbar : ¬ (hd l = 108 ∨ hd l = 111 ∨ hd l = 79 ∨ hd l = 109 ∨ hd l = 116)) (hdl : du.length < 900000) (hn0 : n0 < 890000) (hps : ps = pos) (hpos : pos < 60) (hk3 : (σ.1 27) = 3 ↔ oSnd od ≠ none) (hrun : oSnd od ≠ none → (σ.2 74 (pos)) = b2i run) : TM (d + 10) tk_workAct [.inr 0, .inl ps, .inl x0] σ (SaQ σ t (stAct t.length od run (x, false, du, pu, re) (h, o, fi, m, n, rp))) := by
  have ha := hs.at hx hl0
  have hx1 : Sfx s l.tail (x0 + 1) := hx.step hl0 rfl
  have hpp := hp
  obtain ⟨p1, p2, p3, p4, p5, p6, p7, p8, p9, p10⟩ := hp
  have hall := actsAll p10 hout hbar
  have hnR : 0 ≤ n ∧ n ≤ n0 + 40 := hw.nn
  obtain ⟨h14, hh40, hhr⟩ := hB.2.2.2.2.1.1
  have h14 : σ.1 14 = h.length := h14
  have hh40 : h.length ≤ 40 := hh40
  have hhr : RowsIs σ 82 h := hhr
  refine TM.of rfl rfl ?_
  (repeat (first | (refine TW.getf rfl rfl rfl (fun _ => ?_)) | (refine TW.pl rfl rfl ?_)))
  refine TW.iald (n := 60) rfl rfl rfl (by omega) (fun _ => ?_)
  rw [ha.1]
  (repeat (first | (refine TW.getf rfl rfl rfl (fun _ => ?_)) | (refine TW.pl rfl rfl ?_)))
  refine TW.br rfl rfl (by first | omega | exact b2i_R _ | exact ⟨b2i_R _, by omega⟩) (fun n97 => ?_) (fun n97 => ?_)
  rotate_left
  · clear hall hbar
    have hc : oAct od = 97 := hact.trans n97
    obtain ⟨k, hrw⟩ := p1 (Or.inl n97)
    have hrl : (oRows od).length ≤ 1000 := by
      have h1 := pRows_bar _ k l.tail l1 hrw
      have h2 : ∀ q : List Int, cBar q ≤ q.length := by
        intro q
        induction q with
        | nil => exact Nat.le_refl _
        | cons a q ih =>
          show (if isChr a = true ∨ a = 124 then (if a = 124 then 1 else 0) + cBar q else 0) ≤ q.length + 1
          split <;> (try split) <;> omega
      have := h2 l.tail
      have := hx1.len
      have := hs.2.1
      omega
    rw [stAct_97 hc]
    (repeat (first | (refine TW.getf rfl rfl rfl (fun _ => ?_)) | (refine TW.pl rfl rfl ?_)))
    refine TW.cv1 rfl rfl rfl (Nat.le_of_ble_eq_true rfl) (T_dueTold hs hB.2.2.1 hx1 hrw (by show du.length + _ < 1000000; omega)) ?_
    rintro _ τ1 ⟨rfl, hD1, hs1, hf1⟩
    exact TW.iret rfl ⟨SF.row hf1 hs1 (by decide) (by decide) (fun k z => by omega), rfl, hB.due hD1 hf1 hs1 (by decide) (by decide)⟩
  (repeat (first | (refine TW.getf rfl rfl rfl (fun _ => ?_)) | (refine TW.pl rfl rfl ?_)))
  refine TW.br rfl rfl (by first | omega | exact b2i_R _ | exact ⟨b2i_R _, by omega⟩) (fun n105 => ?_) (fun n105 => ?_)
  rotate_left
  · clear hall hbar n97
    have hc : oAct od = 105 := hact.trans n105
    obtain ⟨k, hrw⟩ := p1 (Or.inr (Or.inl n105))
    have hrl : (oRows od).length ≤ 1000 := by
      have h1 := pRows_bar _ k l.tail l1 hrw
      have h2 : ∀ q : List Int, cBar q ≤ q.length := by
        intro q
        induction q with
        | nil => exact Nat.le_refl _
        | cons a q ih =>
          show (if isChr a = true ∨ a = 124 then (if a = 124 then 1 else 0) + cBar q else 0) ≤ q.length + 1
          split <;> (try split) <;> omega
      have := h2 l.tail
      have := hx1.len
      have := hs.2.1
      omega
    rw [stAct_105 hc]
    (repeat (first | (refine TW.getf rfl rfl rfl (fun _ => ?_)) | (refine TW.pl rfl rfl ?_)))
    refine TW.cv1 rfl rfl rfl (Nat.le_of_ble_eq_true rfl) (T_rowsAt hs hx1 hrw) ?_; rintro _ _ ⟨rfl, rfl⟩
    refine TW.cv2 rfl rfl rfl (Nat.le_of_ble_eq_true rfl) (T_putTold hs hB.2.1 hx1 (Or.inr hrw) rfl hB.2.2.2.2.2.2.1 (by show 0 ≤ n ∧ n < 900000; omega) hrl) ?_
    intro r τ1 hq
    exact TW.retS rfl (PuQ.sa hB hq)
  (repeat (first | (refine TW.getf rfl rfl rfl (fun _ => ?_)) | (refine TW.pl rfl rfl ?_)))
  refine TW.br rfl rfl (by first | omega | exact b2i_R _ | exact ⟨b2i_R _, by omega⟩) (fun n99 => ?_) (fun n99 => ?_)
  rotate_left
  · clear hall hbar n97 n105
    have hc : oAct od = 99 := hact.trans n99
    obtain ⟨k, hrw⟩ := p1 (Or.inr (Or.inr n99))
    rw [stAct_99 hc]
    have go : ∀ b : Bool, (b = true ↔ (oSnd od = none ∨ run = false)) → TW (d + 9) tc_workAct 47 [some (.inr 0), some (.inl ps), some (.inl x0), some (.inl (hd l))] [.inl (b2i b), .inl (x0 + 1), .inr 0] σ (SaQ σ t (if oSnd od = none ∨ run = false then (match stPuts (x, false, du, pu, re) (h, o, fi, m, n, rp) (oRows od) with
        | .inl w => .inl w
        | .inr (W1, B1) => .inr (stGone W1 B1)) else .inr (stGone (x, false, du, pu, re) (h, o, fi, m, n, rp)))) := by
      intro b hb
      refine TW.cv2 rfl rfl rfl (Nat.le_of_ble_eq_true rfl) (T_changeWork (b := b) hs hB hw hx1 hrw hn0) ?_
      intro r τ1 hq
      by_cases hbt : b = true
      · rw [if_pos (hb.mp hbt)]
        rw [if_pos hbt] at hq
        exact TW.retS rfl hq
      · rw [if_neg (fun z => hbt (hb.mpr z))]
        rw [if_neg hbt] at hq
        exact TW.retS rfl hq
    (repeat (first | (refine TW.getf rfl rfl rfl (fun _ => ?_)) | (refine TW.pl rfl rfl ?_)))
    refine TW.br rfl rfl (by first | omega | exact b2i_R _ | exact ⟨b2i_R _, by omega⟩) (fun q1 => ?_) (fun q1 => ?_)
    · have hsn : oSnd od = none := Classical.byContradiction (fun z => q1 (hk3.mpr z))
      (iterate 2 (first | (refine TW.getf rfl rfl rfl (fun _ => ?_)) | (refine TW.pl rfl rfl ?_)))
      exact go true ⟨fun _ => Or.inl hsn, fun _ => rfl⟩
    · have hsn : oSnd od ≠ none := hk3.mp q1
      (repeat (first | (refine TW.getf rfl rfl rfl (fun _ => ?_)) | (refine TW.pl rfl rfl ?_)))
      refine TW.bald (n := 60) rfl rfl rfl (by omega) (fun _ => ?_)
      rw [show ps.toNat = pos by omega, hrun hsn]
      refine TW.br rfl rfl (by first | omega | exact b2i_R _ | exact ⟨b2i_R _, by omega⟩) (fun q2 => ?_) (fun q2 => ?_)
      · have hrt : run = true := b2i_1 q2
        (iterate 1 (first | (refine TW.getf rfl rfl rfl (fun _ => ?_)) | (refine TW.pl rfl rfl ?_)))
        refine go false ⟨fun z => absurd z (by decide), fun z => ?_⟩
        rcases z with z | z
        · exact absurd z hsn
        · rw [hrt] at z; cases z
      · have hrf : run = false := b2i_0 q2
        (iterate 2 (first | (refine TW.getf rfl rfl rfl (fun _ => ?_)) | (refine TW.pl rfl rfl ?_)))
        exact go true ⟨fun _ => Or.inr hrf, fun _ => rfl⟩
  (repeat (first | (refine TW.getf rfl rfl rfl (fun _ => ?_)) | (refine TW.pl rfl rfl ?_)))
  refine TW.br rfl rfl (by first | omega | exact b2i_R _ | exact ⟨b2i_R _, by omega⟩) (fun n100 => ?_) (fun n100 => ?_)
  rotate_left
  · clear hall hbar n97 n105 n99
    rw [stAct_100 (hact.trans n100)]
    (repeat (first | (refine TW.getf rfl rfl rfl (fun _ => ?_)) | (refine TW.pl rfl rfl ?_)))
    refine TW.putz rfl rfl (Or.inl rfl) ?_
    (repeat (first | (refine TW.getf rfl rfl rfl (fun _ => ?_)) | (refine TW.pl rfl rfl ?_)))
    exact TW.iret rfl ⟨SF.fr (TFr.rf.ts1 (fs := [70]) (as := []) (by decide)) (by decide) (by decide) (by decide), rfl, hB.goneT hw⟩
  (repeat (first | (refine TW.getf rfl rfl rfl (fun _ => ?_)) | (refine TW.pl rfl rfl ?_)))
  refine TW.br rfl rfl (by first | omega | exact b2i_R _ | exact ⟨b2i_R _, by omega⟩) (fun n106 => ?_) (fun n106 => ?_)
  rotate_left
  · clear hall hbar n97 n105 n99 n100
    rw [stAct_106 (hact.trans n106)]
    (repeat (first | (refine TW.getf rfl rfl rfl (fun _ => ?_)) | (refine TW.pl rfl rfl ?_)))
    refine TW.cv0 rfl rfl rfl (Nat.le_of_ble_eq_true rfl) (T_joinNext hB hw hn0) ?_
    intro r τ1 hq
    exact TW.retS rfl hq
  (repeat (first | (refine TW.getf rfl rfl rfl (fun _ => ?_)) | (refine TW.pl rfl rfl ?_)))
  refine TW.br rfl rfl (by first | omega | exact b2i_R _ | exact ⟨b2i_R _, by omega⟩) (fun n118 => ?_) (fun n118 => ?_)
  rotate_left
  · clear hall hbar n97 n105 n99 n100 n106
    have hpn := p2 (Or.inl n118)
    have hv := pNum_R9 hpn
    rw [stAct_118 (hact.trans n118)]
    (repeat (first | (refine TW.getf rfl rfl rfl (fun _ => ?_)) | (refine TW.pl rfl rfl ?_)))
    refine TW.cv1 rfl rfl rfl (Nat.le_of_ble_eq_true rfl) (T_numberAt hs hx1 hpn) ?_; rintro _ _ ⟨rfl, rfl⟩
    refine TW.cv1 rfl rfl rfl (Nat.le_of_ble_eq_true rfl) (T_partWork (b := (oNum od).toNat) hB (by omega) (by omega) hdl) ?_
    intro r τ1 hq
    exact TW.retS rfl hq
  have hrel : t.length - re.length = t.length - (x, false, du, pu, re).2.2.2.2.length := rfl
  have go83 : ∀ a b : Bool, (hd l = 112 ↔ a = false) → (hd l = 61 ↔ b = false) → (a = true ∨ b = true) → stAct t.length od run (x, false, du, pu, re) (h, o, fi, m, n, rp) = stTell (x, false, du, pu, re) (h, o, fi, m, n, rp) (if a = true then (if b = true then sNum (t.length - re.length) ++ [32] ++ x.2 else sNum (t.length - re.length)) else x.2) → TW (d + 9) tc_workAct 83 [some (.inr 0), some (.inl ps), some (.inl x0), some (.inl (hd l))] [] σ (SaQ σ t (stAct t.length od run (x, false, du, pu, re) (h, o, fi, m, n, rp))) := by
    intro a b ha1 hb1 hab he
    rw [he]
    have second : TW (d + 9) tc_workAct 90 [some (.inr 0), some (.inl ps), some (.inl x0), some (.inl (hd l))] [.inl (b2i a), .inr 0] σ (SaQ σ t (stTell (x, false, du, pu, re) (h, o, fi, m, n, rp) (if a = true then (if b = true then sNum (t.length - re.length) ++ [32] ++ x.2 else sNum (t.length - re.length)) else x.2))) := by
      have third : TW (d + 9) tc_workAct 96 [some (.inr 0), some (.inl ps), some (.inl x0), some (.inl (hd l))] [.inl (b2i b), .inl (b2i a), .inr 0] σ (SaQ σ t (stTell (x, false, du, pu, re) (h, o, fi, m, n, rp) (if a = true then (if b = true then sNum (t.length - re.length) ++ [32] ++ x.2 else sNum (t.length - re.length)) else x.2))) := by
        refine TW.cv2 rfl rfl rfl (Nat.le_of_ble_eq_true rfl) (T_tellWork hB rfl hab) ?_
        intro r τ1 hq
        exact TW.retS rfl hq
      clear hall hbar n97 n105 n99 n100 n106 n118
      (repeat (first | (refine TW.getf rfl rfl rfl (fun _ => ?_)) | (refine TW.pl rfl rfl ?_)))
      refine TW.br rfl rfl (by first | omega | exact b2i_R _ | exact ⟨b2i_R _, by omega⟩) (fun q1 => ?_) (fun q1 => ?_)
      · have hb0 := hb1.mp q1
        subst hb0
        (iterate 1 (first | (refine TW.getf rfl rfl rfl (fun _ => ?_)) | (refine TW.pl rfl rfl ?_)))
        exact third
      · have hb0 : b = true := by
          cases b with
          | true => rfl
          | false => exact absurd (hb1.mpr rfl) q1
        subst hb0
        (iterate 2 (first | (refine TW.getf rfl rfl rfl (fun _ => ?_)) | (refine TW.pl rfl rfl ?_)))
        exact third
    clear hall hbar n97 n105 n99 n100 n106 n118
    (repeat (first | (refine TW.getf rfl rfl rfl (fun _ => ?_)) | (refine TW.pl rfl rfl ?_)))
    refine TW.br rfl rfl (by first | omega | exact b2i_R _ | exact ⟨b2i_R _, by omega⟩) (fun q1 => ?_) (fun q1 => ?_)
    · have ha0 := ha1.mp q1
      subst ha0
      (iterate 1 (first | (refine TW.getf rfl rfl rfl (fun _ => ?_)) | (refine TW.pl rfl rfl ?_)))
      exact second
    · have ha0 : a = true := by
        cases a with
        | true => rfl
        | false => exact absurd (ha1.mpr rfl) q1
      subst ha0
      (iterate 2 (first | (refine TW.getf rfl rfl rfl (fun _ => ?_)) | (refine TW.pl rfl rfl ?_)))
      exact second
  (repeat (first | (refine TW.getf rfl rfl rfl (fun _ => ?_)) | (refine TW.pl rfl rfl ?_)))
  refine TW.br rfl rfl (by first | omega | exact b2i_R _ | exact ⟨b2i_R _, by omega⟩) (fun n112 => ?_) (fun n112 => ?_)
  · exact go83 false true ⟨fun _ => rfl, fun _ => n112⟩ ⟨fun z => (by rw [n112] at z; exact absurd z (by decide)), fun z => (by cases z)⟩ (Or.inr rfl) (stAct_112 (hact.trans n112))
  (repeat (first | (refine TW.getf rfl rfl rfl (fun _ => ?_)) | (refine TW.pl rfl rfl ?_)))
  refine TW.br rfl rfl (by first | omega | exact b2i_R _ | exact ⟨b2i_R _, by omega⟩) (fun n110 => ?_) (fun n110 => ?_)
  · exact go83 true true ⟨fun z => absurd z n112, fun z => (by cases z)⟩ ⟨fun z => (by rw [n110] at z; exact absurd z (by decide)), fun z => (by cases z)⟩ (Or.inr rfl) (stAct_110 (hact.trans n110))
  (repeat (first | (refine TW.getf rfl rfl rfl (fun _ => ?_)) | (refine TW.pl rfl rfl ?_)))
  refine TW.br rfl rfl (by first | omega | exact b2i_R _ | exact ⟨b2i_R _, by omega⟩) (fun n61 => ?_) (fun n61 => ?_)
  rotate_left
  · exact go83 true false ⟨fun z => absurd z n112, fun z => (by cases z)⟩ ⟨fun _ => rfl, fun _ => n61⟩ (Or.inl rfl) (stAct_61 (hact.trans n61))
  clear go83
  have go112 : ∀ first : Nat, first ≤ h.length → stAct t.length od run (x, false, du, pu, re) (h, o, fi, m, n, rp) = (if first = 40 then .inl 4 else .inr ((x, false, du, pu, re), (h.take first ++ [x.2], o, fi, m, n, rp))) → TW (d + 9) tc_workAct 112 [some (.inr 0), some (.inl ps), some (.inl x0), some (.inl (hd l))] [.inl first, .inr 0] σ (SaQ σ t (stAct t.length od run (x, false, du, pu, re) (h, o, fi, m, n, rp))) := by
    intro first hfi he
    rw [he]
    refine TW.cv1 rfl rfl rfl (Nat.le_of_ble_eq_true rfl) (T_holdWork hB rfl hfi) ?_
    intro r τ1 hq
    exact TW.retS rfl hq
  (repeat (first | (refine TW.getf rfl rfl rfl (fun _ => ?_)) | (refine TW.pl rfl rfl ?_)))
  refine TW.br rfl rfl (by first | omega | exact b2i_R _ | exact ⟨b2i_R _, by omega⟩) (fun n104 => ?_) (fun n104 => ?_)
  · have e : stAct t.length od run (x, false, du, pu, re) (h, o, fi, m, n, rp) = (if 0 = 40 then .inl 4 else .inr ((x, false, du, pu, re), (h.take 0 ++ [x.2], o, fi, m, n, rp))) := by
      rw [stAct_104 (hact.trans n104), if_neg (by decide)]
      rfl
    have := go112 0 (Nat.zero_le _) e
    clear hall hbar n97 n105 n99 n100 n106 n118 n112 n110 n61
    (repeat (first | (refine TW.getf rfl rfl rfl (fun _ => ?_)) | (refine TW.pl rfl rfl ?_)))
    refine TW.br rfl rfl (by first | omega | exact b2i_R _ | exact ⟨b2i_R _, by omega⟩) (fun q1 => ?_) (fun q1 => ?_)
    · exact absurd n104 q1
    · (iterate 2 (first | (refine TW.getf rfl rfl rfl (fun _ => ?_)) | (refine TW.pl rfl rfl ?_)))
      exact this
  (repeat (first | (refine TW.getf rfl rfl rfl (fun _ => ?_)) | (refine TW.pl rfl rfl ?_)))
  refine TW.br rfl rfl (by first | omega | exact b2i_R _ | exact ⟨b2i_R _, by omega⟩) (fun n72 => ?_) (fun n72 => ?_)
  rotate_left
  · have e : stAct t.length od run (x, false, du, pu, re) (h, o, fi, m, n, rp) = (if h.length = 40 then .inl 4 else .inr ((x, false, du, pu, re), (h.take h.length ++ [x.2], o, fi, m, n, rp))) := by
      rw [stAct_72 (hact.trans n72), List.take_of_length_le (Nat.le_refl _)]
    have := go112 h.length (Nat.le_refl _) e
    clear hall hbar n97 n105 n99 n100 n106 n118 n112 n110 n61
    (repeat (first | (refine TW.getf rfl rfl rfl (fun _ => ?_)) | (refine TW.pl rfl rfl ?_)))
    refine TW.br rfl rfl (by first | omega | exact b2i_R _ | exact ⟨b2i_R _, by omega⟩) (fun q1 => ?_) (fun q1 => ?_)
    · (iterate 2 (first | (refine TW.getf rfl rfl rfl (fun _ => ?_)) | (refine TW.pl rfl rfl ?_)))
      rw [h14]
      exact this
    · exact absurd q1 n104
  (repeat (first | (refine TW.getf rfl rfl rfl (fun _ => ?_)) | (refine TW.pl rfl rfl ?_)))
  refine TW.br rfl rfl (by first | omega | exact b2i_R _ | exact ⟨b2i_R _, by omega⟩) (fun n117 => ?_) (fun n117 => ?_)
  rotate_left
  · clear hall hbar n97 n105 n99 n100 n106 n118 n112 n110 n61 n104 n72
    rw [stAct_117 (hact.trans n117)]
    (repeat (first | (refine TW.getf rfl rfl rfl (fun _ => ?_)) | (refine TW.pl rfl rfl ?_)))
    refine TW.br rfl rfl (by first | omega | exact b2i_R _ | exact ⟨b2i_R _, by omega⟩) (fun q1 => ?_) (fun q1 => ?_)
    · have hne : h ≠ [] := fun z => by rw [z] at h14; exact q1 h14
      rw [show ((h, o, fi, m, n, rp) : BG).1 = h from rfl, if_neg hne]
      (repeat (first | (refine TW.getf rfl rfl rfl (fun _ => ?_)) | (refine TW.pl rfl rfl ?_)))
      refine TW.cv2 rfl rfl rfl (Nat.le_of_ble_eq_true rfl) (T_dueRows (b0 := 82) (rs := h) hB.2.2.1 hhr rfl h14 (by omega) (by show du.length + _ < 1000000; omega)) ?_
      rintro _ τ1 ⟨rfl, hD1, hs1, hf1⟩
      exact TW.iret rfl ⟨SF.row hf1 hs1 (by decide) (by decide) (fun k z => by omega), rfl, hB.due hD1 hf1 (fun i hi => hs1 i (fun z => hi (Or.inl z))) (by decide) (by decide)⟩
    · have he : h = [] := List.length_eq_zero_iff.mp (by omega)
      rw [show ((h, o, fi, m, n, rp) : BG).1 = h from rfl, if_pos he]
      (repeat (first | (refine TW.getf rfl rfl rfl (fun _ => ?_)) | (refine TW.pl rfl rfl ?_)))
      exact TW.iret rfl ⟨SF.rf, rfl, by decide, by decide⟩
  (repeat (first | (refine TW.getf rfl rfl rfl (fun _ => ?_)) | (refine TW.pl rfl rfl ?_)))
  refine TW.br rfl rfl (by first | omega | exact b2i_R _ | exact ⟨b2i_R _, by omega⟩) (fun n101 => ?_) (fun n101 => ?_)
  rotate_left
  · clear hall hbar n97 n105 n99 n100 n106 n118 n112 n110 n61 n104 n72 n117
    rw [stAct_101 (hact.trans n101)]
    (repeat (first | (refine TW.getf rfl rfl rfl (fun _ => ?_)) | (refine TW.pl rfl rfl ?_)))
    refine TW.cv0 rfl rfl rfl (Nat.le_of_ble_eq_true rfl) (T_exchangeWork hB) ?_
    intro r τ1 hq
    exact TW.retS rfl hq
  have hrem : hd l = 62 ∨ hd l = 60 ∨ hd l = 115 ∨ hd l = 122 ∨ hd l = 114 ∨ hd l = 119 ∨ hd l = 107 := by
    rcases hall with z | z | z | z | z | z | z | z | z | z | z | z | z | z
    · exact absurd z n97
    · exact absurd z n105
    · exact absurd z n99
    · exact absurd z n100
    · exact absurd z n106
    · exact absurd z n118
    · exact absurd z n112
    · exact absurd z n110
    · exact absurd z n61
    · exact absurd z n104
    · exact absurd z n72
    · exact absurd z n117
    · exact absurd z n101
    · exact z
  clear hall hbar n97 n105 n99 n100 n106 n118 n112 n110 n61 n104 n72 n117 n101
  (repeat (first | (refine TW.getf rfl rfl rfl (fun _ => ?_)) | (refine TW.pl rfl rfl ?_)))
  refine TW.cv1 rfl rfl rfl (Nat.le_of_ble_eq_true rfl) (T_otherWorkAct (L := t.length) (run := run) hs hB hw hx hl0 hact hpp h48 hdl hrem) ?_
  intro r τ1 hq
  exact TW.retS rfl hq
end TWwf
