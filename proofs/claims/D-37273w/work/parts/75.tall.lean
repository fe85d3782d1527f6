set_option maxRecDepth 100000
/-! the twin reads every order -/
section TAll
variable {d : Nat} {σ σ0 : TS} {s l f : List Int} {fs : List Nat} {gr st : Nat} {m : Int}
theorem PY.cv {α β : Type} {R : PR α} {R' : PR β} {r : Option Int} {τ : TS} (h : PY fs σ0 s (rs R) r τ) (e : rs R' = rs R) : PY fs σ0 s (rs R') r τ := e ▸ h
theorem rs_map {α β : Type} (R : PR α) (g : List Int → α → β) : rs (match R with | .inl f => .inl f | .inr (l, v) => .inr (l, g l v) : PR β) = rs R := by cases R <;> rfl
theorem T_plainAct {inner hw : Bool} {w : Bool × Option SAdr × Option SAdr} (hhw : hw = true ↔ (w.1 = true ∨ w.2.1 ≠ none)) (h : PGx fs σ0 s l σ) : TM (d + 10) tk_plainAct [.inr 0, .inl (b2i inner), .inl (b2i hw)] σ (PY fs σ0 s (rs (pAct inner w l))) := by
  obtain ⟨gr, st, h⟩ := h
  have hdr := h.hdR
  refine TM.of rfl rfl ?_
  unfold pAct
  dsimp only
  generalize hc : hd l = c at hdr
  have fail36 : ∀ x : Int, TW (d + 9) tc_plainAct 36 [some (.inr 0), some (.inl (b2i inner)), some (.inl (b2i hw)), some (.inl c), some (.inl x)] [] σ (PY fs σ0 s (.inl l)) := by
    intro x
    (repeat (first | (refine TW.getf rfl rfl rfl (fun _ => ?_)) | (refine TW.pl rfl rfl ?_)))
    refine TW.cv0 rfl rfl rfl (Nat.le_of_ble_eq_true rfl) (T_failG h) ?_
    rintro _ τ ⟨rfl, hb⟩
    exact TW.vret rfl (PY.bad hb (by decide) rfl)
  have main39 : ∀ x : Int, ¬ (l = [] ∨ (isOut c = true ∧ inner = true) ∨ (c = 58 ∧ (w.1 = true ∨ w.2.1 ≠ none))) → TW (d + 9) tc_plainAct 39 [some (.inr 0), some (.inl (b2i inner)), some (.inl (b2i hw)), some (.inl c), some (.inl x)] [] σ (PY fs σ0 s (rs (pAct inner w l))) := by
    intro x g0
    have hn : l ≠ [] := fun z => g0 (Or.inl z)
    have hll := List.length_pos_iff.mpr hn
    unfold pAct
    dsimp only
    rw [hc, if_neg g0]
    (repeat (first | (refine TW.getf rfl rfl rfl (fun _ => ?_)) | (refine TW.pl rfl rfl ?_)))
    refine TW.putf rfl rfl (by omega) ?_
    have hs := h.step hn rfl
    have hds := hs.hdR
    have rows54 : ∀ y : TS, y = ts1 σ 23 (σ.1 23 + 1) → TW (d + 9) tc_plainAct 54 [some (.inr 0), some (.inl (b2i inner)), some (.inl (b2i hw)), some (.inl c), some (.inl x)] [] y (PY fs σ0 s (rs (pRows l.tail.length l.tail))) := by
      rintro _ rfl
      (repeat (first | (refine TW.getf rfl rfl rfl (fun _ => ?_)) | (refine TW.pl rfl rfl ?_)))
      refine TW.cv0 rfl rfl rfl (Nat.le_of_ble_eq_true rfl) (T_rows ⟨_, _, hs⟩) ?_
      rintro _ τ hp
      obtain ⟨rfl, -⟩ := id hp
      (repeat (first | (refine TW.getf rfl rfl rfl (fun _ => ?_)) | (refine TW.pl rfl rfl ?_)))
      exact TW.vret rfl hp
    have num72 : ∀ y : TS, y = ts1 σ 23 (σ.1 23 + 1) → TW (d + 9) tc_plainAct 72 [some (.inr 0), some (.inl (b2i inner)), some (.inl (b2i hw)), some (.inl c), some (.inl x)] [] y (PY fs σ0 s (rs (pNum l.tail))) := by
      rintro _ rfl
      (repeat (first | (refine TW.getf rfl rfl rfl (fun _ => ?_)) | (refine TW.pl rfl rfl ?_)))
      refine TW.cv0 rfl rfl rfl (Nat.le_of_ble_eq_true rfl) (T_numberX ⟨_, _, hs⟩) ?_
      rintro _ τ hp
      obtain ⟨rfl, -⟩ := id hp
      (repeat (first | (refine TW.getf rfl rfl rfl (fun _ => ?_)) | (refine TW.pl rfl rfl ?_)))
      exact TW.vret rfl hp
    have adr81 : ∀ y : TS, y = ts1 σ 23 (σ.1 23 + 1) → TW (d + 9) tc_plainAct 81 [some (.inr 0), some (.inl (b2i inner)), some (.inl (b2i hw)), some (.inl c), some (.inl x)] [] y (PY fs σ0 s (rs (pAdr l.tail))) := by
      rintro _ rfl
      (repeat (first | (refine TW.getf rfl rfl rfl (fun _ => ?_)) | (refine TW.pl rfl rfl ?_)))
      refine TW.cv0 rfl rfl rfl (Nat.le_of_ble_eq_true rfl) (T_address ⟨_, _, hs⟩) ?_
      rintro _ τ hp
      obtain ⟨rfl, -⟩ := id hp
      (repeat (first | (refine TW.getf rfl rfl rfl (fun _ => ?_)) | (refine TW.pl rfl rfl ?_)))
      exact TW.vret rfl hp
    (repeat (first | (refine TW.getf rfl rfl rfl (fun _ => ?_)) | (refine TW.pl rfl rfl ?_)))
    refine TW.br rfl rfl (by first | omega | exact b2i_R _ | exact ⟨b2i_R _, by omega⟩) (fun a1 => ?_) (fun a1 => ?_)
    · rw [if_pos (Or.inl a1)]
      have L := rows54 _ rfl
      revert L
      cases pRows l.tail.length l.tail <;> exact id
    (repeat (first | (refine TW.getf rfl rfl rfl (fun _ => ?_)) | (refine TW.pl rfl rfl ?_)))
    refine TW.br rfl rfl (by first | omega | exact b2i_R _ | exact ⟨b2i_R _, by omega⟩) (fun a2 => ?_) (fun a2 => ?_)
    · rw [if_pos (Or.inr (Or.inl a2))]
      have L := rows54 _ rfl
      revert L
      cases pRows l.tail.length l.tail <;> exact id
    (repeat (first | (refine TW.getf rfl rfl rfl (fun _ => ?_)) | (refine TW.pl rfl rfl ?_)))
    refine TW.br rfl rfl (by first | omega | exact b2i_R _ | exact ⟨b2i_R _, by omega⟩) (fun a3 => ?_) (fun a3 => ?_)
    rotate_left
    · rw [if_pos (Or.inr (Or.inr a3))]
      have L := rows54 _ rfl
      revert L
      cases pRows l.tail.length l.tail <;> exact id
    rw [if_neg (by omega)]
    (repeat (first | (refine TW.getf rfl rfl rfl (fun _ => ?_)) | (refine TW.pl rfl rfl ?_)))
    refine TW.br rfl rfl (by first | omega | exact b2i_R _ | exact ⟨b2i_R _, by omega⟩) (fun b1 => ?_) (fun b1 => ?_)
    · rw [if_pos (Or.inl b1)]
      have L := num72 _ rfl
      revert L
      cases pNum l.tail <;> exact id
    (repeat (first | (refine TW.getf rfl rfl rfl (fun _ => ?_)) | (refine TW.pl rfl rfl ?_)))
    refine TW.br rfl rfl (by first | omega | exact b2i_R _ | exact ⟨b2i_R _, by omega⟩) (fun b2 => ?_) (fun b2 => ?_)
    · rw [if_pos (Or.inr (Or.inl b2))]
      have L := num72 _ rfl
      revert L
      cases pNum l.tail <;> exact id
    (repeat (first | (refine TW.getf rfl rfl rfl (fun _ => ?_)) | (refine TW.pl rfl rfl ?_)))
    refine TW.br rfl rfl (by first | omega | exact b2i_R _ | exact ⟨b2i_R _, by omega⟩) (fun b3 => ?_) (fun b3 => ?_)
    · rw [if_pos (Or.inr (Or.inr (Or.inl b3)))]
      have L := num72 _ rfl
      revert L
      cases pNum l.tail <;> exact id
    (repeat (first | (refine TW.getf rfl rfl rfl (fun _ => ?_)) | (refine TW.pl rfl rfl ?_)))
    refine TW.br rfl rfl (by first | omega | exact b2i_R _ | exact ⟨b2i_R _, by omega⟩) (fun b4 => ?_) (fun b4 => ?_)
    · rw [if_pos (Or.inr (Or.inr (Or.inr (Or.inl b4))))]
      have L := num72 _ rfl
      revert L
      cases pNum l.tail <;> exact id
    (repeat (first | (refine TW.getf rfl rfl rfl (fun _ => ?_)) | (refine TW.pl rfl rfl ?_)))
    refine TW.br rfl rfl (by first | omega | exact b2i_R _ | exact ⟨b2i_R _, by omega⟩) (fun b5 => ?_) (fun b5 => ?_)
    rotate_left
    · rw [if_pos (Or.inr (Or.inr (Or.inr (Or.inr b5))))]
      have L := num72 _ rfl
      revert L
      cases pNum l.tail <;> exact id
    rw [if_neg (by omega)]
    (repeat (first | (refine TW.getf rfl rfl rfl (fun _ => ?_)) | (refine TW.pl rfl rfl ?_)))
    refine TW.br rfl rfl (by first | omega | exact b2i_R _ | exact ⟨b2i_R _, by omega⟩) (fun c1 => ?_) (fun c1 => ?_)
    · rw [if_pos (Or.inl c1)]
      have L := adr81 _ rfl
      revert L
      cases pAdr l.tail <;> exact id
    (repeat (first | (refine TW.getf rfl rfl rfl (fun _ => ?_)) | (refine TW.pl rfl rfl ?_)))
    refine TW.br rfl rfl (by first | omega | exact b2i_R _ | exact ⟨b2i_R _, by omega⟩) (fun c2 => ?_) (fun c2 => ?_)
    rotate_left
    · rw [if_pos (Or.inr c2)]
      have L := adr81 _ rfl
      revert L
      cases pAdr l.tail <;> exact id
    rw [if_neg (by omega)]
    (repeat (first | (refine TW.getf rfl rfl rfl (fun _ => ?_)) | (refine TW.pl rfl rfl ?_)))
    refine TW.br rfl rfl (by first | omega | exact b2i_R _ | exact ⟨b2i_R _, by omega⟩) (fun d1 => ?_) (fun d1 => ?_)
    rotate_left
    · rw [if_pos d1]
      (repeat (first | (refine TW.getf rfl rfl rfl (fun _ => ?_)) | (refine TW.pl rfl rfl ?_)))
      refine TW.cv0 rfl rfl rfl (Nat.le_of_ble_eq_true rfl) (T_c hs) ?_; rintro _ _ ⟨rfl, rfl⟩
      refine TW.cs1 rfl rfl rfl (Nat.le_of_ble_eq_true rfl) (T_isMark (by omega)) ?_; rintro _ _ ⟨rfl, rfl⟩
      refine TW.cv1 rfl rfl rfl (Nat.le_of_ble_eq_true rfl) (T_takeIf hs (fun z w => by rw [w] at z; cases z)) ?_
      rintro _ τ ⟨rfl, p1, p2⟩
      (repeat (first | (refine TW.getf rfl rfl rfl (fun _ => ?_)) | (refine TW.pl rfl rfl ?_)))
      refine TW.vret rfl ?_
      cases hm : isMrk (hd l.tail) with
      | true => rw [if_pos rfl]; exact PY.good (p1 hm) (by decide) rfl
      | false => rw [if_neg (by decide)]; exact PY.bad (p2 hm) (by decide) rfl
    rw [if_neg d1]
    have rw99 : ∀ y : TS, y = ts1 σ 23 (σ.1 23 + 1) → (c = 114 ∨ c = 119) → TW (d + 9) tc_plainAct 99 [some (.inr 0), some (.inl (b2i inner)), some (.inl (b2i hw)), some (.inl c), some (.inl x)] [] y (PY fs σ0 s (rs (if 48 ≤ hd l.tail ∧ hd l.tail ≤ 51 then .inr (l.tail.tail, (ord0 w c).1, (ord0 w c).2.1, (ord0 w c).2.2.1, c, hd l.tail - 48, [], none, noPat, [], [], false) else .inl l.tail : PR SOrd0))) := by
      rintro _ rfl hc2
      have key : ∀ b : Bool, b = decide (48 ≤ hd l.tail ∧ hd l.tail ≤ 51) → TW (d + 9) tc_plainAct 111 [some (.inr 0), some (.inl (b2i inner)), some (.inl (b2i hw)), some (.inl c), some (.inl x)] [.inl (b2i b), .inr 0] (ts1 σ 23 (σ.1 23 + 1)) (PY fs σ0 s (rs (if 48 ≤ hd l.tail ∧ hd l.tail ≤ 51 then .inr (l.tail.tail, (ord0 w c).1, (ord0 w c).2.1, (ord0 w c).2.2.1, c, hd l.tail - 48, [], none, noPat, [], [], false) else .inl l.tail : PR SOrd0))) := by
        intro b hb
        refine TW.cv1 rfl rfl rfl (Nat.le_of_ble_eq_true rfl) (T_takeIf hs (fun z => hd_ne rfl (by rw [hb] at z; have := of_decide_eq_true z; omega))) ?_
        rintro _ τ ⟨rfl, p1, p2⟩
        (repeat (first | (refine TW.getf rfl rfl rfl (fun _ => ?_)) | (refine TW.pl rfl rfl ?_)))
        refine TW.vret rfl ?_
        cases b with
        | true => rw [if_pos (of_decide_eq_true hb.symm)]; exact PY.good (p1 rfl) (by decide) rfl
        | false => rw [if_neg (of_decide_eq_false hb.symm)]; exact PY.bad (p2 rfl) (by decide) rfl
      (repeat (first | (refine TW.getf rfl rfl rfl (fun _ => ?_)) | (refine TW.pl rfl rfl ?_)))
      refine TW.cv0 rfl rfl rfl (Nat.le_of_ble_eq_true rfl) (T_c hs) ?_; rintro _ _ ⟨rfl, rfl⟩
      (repeat (first | (refine TW.getf rfl rfl rfl (fun _ => ?_)) | (refine TW.pl rfl rfl ?_)))
      refine TW.br rfl rfl (by first | omega | exact b2i_R _ | exact ⟨b2i_R _, by omega⟩) (fun e1 => ?_) (fun e1 => ?_)
      · (iterate 1 (first | (refine TW.getf rfl rfl rfl (fun _ => ?_)) | (refine TW.pl rfl rfl ?_)))
        exact key false (decide_eq_false (by omega)).symm
      (repeat (first | (refine TW.getf rfl rfl rfl (fun _ => ?_)) | (refine TW.pl rfl rfl ?_)))
      refine TW.cv0 rfl rfl rfl (Nat.le_of_ble_eq_true rfl) (T_c hs) ?_; rintro _ _ ⟨rfl, rfl⟩
      (repeat (first | (refine TW.getf rfl rfl rfl (fun _ => ?_)) | (refine TW.pl rfl rfl ?_)))
      refine TW.br rfl rfl (by first | omega | exact b2i_R _ | exact ⟨b2i_R _, by omega⟩) (fun e2 => ?_) (fun e2 => ?_)
      · (iterate 1 (first | (refine TW.getf rfl rfl rfl (fun _ => ?_)) | (refine TW.pl rfl rfl ?_)))
        exact key false (decide_eq_false (by omega)).symm
      · (iterate 2 (first | (refine TW.getf rfl rfl rfl (fun _ => ?_)) | (refine TW.pl rfl rfl ?_)))
        exact key true (decide_eq_true (by omega)).symm
    (repeat (first | (refine TW.getf rfl rfl rfl (fun _ => ?_)) | (refine TW.pl rfl rfl ?_)))
    refine TW.br rfl rfl (by first | omega | exact b2i_R _ | exact ⟨b2i_R _, by omega⟩) (fun f1 => ?_) (fun f1 => ?_)
    · rw [if_pos (Or.inl f1)]
      exact rw99 _ rfl (Or.inl f1)
    (repeat (first | (refine TW.getf rfl rfl rfl (fun _ => ?_)) | (refine TW.pl rfl rfl ?_)))
    refine TW.br rfl rfl (by first | omega | exact b2i_R _ | exact ⟨b2i_R _, by omega⟩) (fun f2 => ?_) (fun f2 => ?_)
    rotate_left
    · rw [if_pos (Or.inr f2)]
      exact rw99 _ rfl (Or.inr f2)
    rw [if_neg (by omega)]
    (repeat (first | (refine TW.getf rfl rfl rfl (fun _ => ?_)) | (refine TW.pl rfl rfl ?_)))
    refine TW.br rfl rfl (by first | omega | exact b2i_R _ | exact ⟨b2i_R _, by omega⟩) (fun g1 => ?_) (fun g1 => ?_)
    rotate_left
    · rw [if_pos g1]
      (repeat (first | (refine TW.getf rfl rfl rfl (fun _ => ?_)) | (refine TW.pl rfl rfl ?_)))
      refine TW.cv0 rfl rfl rfl (Nat.le_of_ble_eq_true rfl) (T_c hs) ?_; rintro _ _ ⟨rfl, rfl⟩
      refine TW.cs1 rfl rfl rfl (Nat.le_of_ble_eq_true rfl) (T_isLabel (by omega)) ?_; rintro _ _ ⟨rfl, rfl⟩
      refine TW.cv1 rfl rfl rfl (Nat.le_of_ble_eq_true rfl) (T_takeIf hs (fun z w => by rw [w] at z; cases z)) ?_
      rintro _ τ ⟨rfl, p1, p2⟩
      (repeat (first | (refine TW.getf rfl rfl rfl (fun _ => ?_)) | (refine TW.pl rfl rfl ?_)))
      refine TW.vret rfl ?_
      cases hm : isLab (hd l.tail) with
      | true => rw [if_pos rfl]; exact PY.good (p1 hm) (by decide) rfl
      | false => rw [if_neg (by decide)]; exact PY.bad (p2 hm) (by decide) rfl
    rw [if_neg g1]
    have lab128 : ∀ y : TS, y = ts1 σ 23 (σ.1 23 + 1) → TW (d + 9) tc_plainAct 128 [some (.inr 0), some (.inl (b2i inner)), some (.inl (b2i hw)), some (.inl c), some (.inl x)] [] y (PY fs σ0 s (rs (if isLab (hd l.tail) = true then .inr (l.tail.tail, (ord0 w c).1, (ord0 w c).2.1, (ord0 w c).2.2.1, c, hd l.tail - 65, [], none, noPat, [], [], false) else .inr (l.tail, (ord0 w c).1, (ord0 w c).2.1, (ord0 w c).2.2.1, c, -1, [], none, noPat, [], [], false) : PR SOrd0))) := by
      rintro _ rfl
      (repeat (first | (refine TW.getf rfl rfl rfl (fun _ => ?_)) | (refine TW.pl rfl rfl ?_)))
      refine TW.cv0 rfl rfl rfl (Nat.le_of_ble_eq_true rfl) (T_c hs) ?_; rintro _ _ ⟨rfl, rfl⟩
      refine TW.cs1 rfl rfl rfl (Nat.le_of_ble_eq_true rfl) (T_isLabel (by omega)) ?_; rintro _ _ ⟨rfl, rfl⟩
      refine TW.br rfl rfl (by first | omega | exact b2i_R _ | exact ⟨b2i_R _, by omega⟩) (fun e1 => ?_) (fun e1 => ?_)
      · rw [if_neg (by rw [b2i_0 e1]; decide)]
        (repeat (first | (refine TW.getf rfl rfl rfl (fun _ => ?_)) | (refine TW.pl rfl rfl ?_)))
        refine TW.putf rfl rfl (by omega) ?_
        (repeat (first | (refine TW.getf rfl rfl rfl (fun _ => ?_)) | (refine TW.pl rfl rfl ?_)))
        exact TW.vret rfl (PY.good (hs.keepP (by omega)) (by decide) rfl)
      · have e2 := b2i_1 e1
        have hn2 : l.tail ≠ [] := fun w => by rw [w] at e2; cases e2
        have hl2 := List.length_pos_iff.mpr hn2
        rw [if_pos e2]
        (repeat (first | (refine TW.getf rfl rfl rfl (fun _ => ?_)) | (refine TW.pl rfl rfl ?_)))
        refine TW.putf rfl rfl (by omega) ?_
        (repeat (first | (refine TW.getf rfl rfl rfl (fun _ => ?_)) | (refine TW.pl rfl rfl ?_)))
        exact TW.vret rfl (PY.good (hs.step hn2 rfl) (by decide) rfl)
    (repeat (first | (refine TW.getf rfl rfl rfl (fun _ => ?_)) | (refine TW.pl rfl rfl ?_)))
    refine TW.br rfl rfl (by first | omega | exact b2i_R _ | exact ⟨b2i_R _, by omega⟩) (fun i1 => ?_) (fun i1 => ?_)
    · rw [if_pos (Or.inl i1)]
      exact lab128 _ rfl
    (repeat (first | (refine TW.getf rfl rfl rfl (fun _ => ?_)) | (refine TW.pl rfl rfl ?_)))
    refine TW.br rfl rfl (by first | omega | exact b2i_R _ | exact ⟨b2i_R _, by omega⟩) (fun i2 => ?_) (fun i2 => ?_)
    rotate_left
    · rw [if_pos (Or.inr i2)]
      exact lab128 _ rfl
    rw [if_neg (by omega)]
    (repeat (first | (refine TW.getf rfl rfl rfl (fun _ => ?_)) | (refine TW.pl rfl rfl ?_)))
    refine TW.br rfl rfl (by first | omega | exact b2i_R _ | exact ⟨b2i_R _, by omega⟩) (fun j1 => ?_) (fun j1 => ?_)
    rotate_left
    · rw [if_pos j1]
      (repeat (first | (refine TW.getf rfl rfl rfl (fun _ => ?_)) | (refine TW.pl rfl rfl ?_)))
      refine TW.cv0 rfl rfl rfl (Nat.le_of_ble_eq_true rfl) (T_replacing ⟨_, _, hs⟩) ?_
      rintro _ τ hp
      obtain ⟨rfl, -⟩ := id hp
      (repeat (first | (refine TW.getf rfl rfl rfl (fun _ => ?_)) | (refine TW.pl rfl rfl ?_)))
      refine TW.vret rfl ?_
      revert hp
      cases pRepl l.tail <;> exact id
    rw [if_neg j1]
    (repeat (first | (refine TW.getf rfl rfl rfl (fun _ => ?_)) | (refine TW.pl rfl rfl ?_)))
    refine TW.br rfl rfl (by first | omega | exact b2i_R _ | exact ⟨b2i_R _, by omega⟩) (fun k1 => ?_) (fun k1 => ?_)
    rotate_left
    · rw [if_pos k1]
      (repeat (first | (refine TW.getf rfl rfl rfl (fun _ => ?_)) | (refine TW.pl rfl rfl ?_)))
      refine TW.cv0 rfl rfl rfl (Nat.le_of_ble_eq_true rfl) (T_turning ⟨_, _, hs⟩) ?_
      rintro _ τ hp
      obtain ⟨rfl, -⟩ := id hp
      (repeat (first | (refine TW.getf rfl rfl rfl (fun _ => ?_)) | (refine TW.pl rfl rfl ?_)))
      refine TW.vret rfl ?_
      revert hp
      cases pTurn l.tail <;> exact id
    rw [if_neg k1]
    (repeat (first | (refine TW.getf rfl rfl rfl (fun _ => ?_)) | (refine TW.pl rfl rfl ?_)))
    refine TW.cs1 rfl rfl rfl (Nat.le_of_ble_eq_true rfl) (T_isBare (by omega)) ?_; rintro _ _ ⟨rfl, rfl⟩
    refine TW.br rfl rfl (by first | omega | exact b2i_R _ | exact ⟨b2i_R _, by omega⟩) (fun l1 => ?_) (fun l1 => ?_)
    · rw [if_pos (b2i_1 l1)]
      exact TW.vret rfl (PY.good hs (by decide) rfl)
    · rw [if_neg (by rw [b2i_0 l1]; decide)]
      have hp1 : (ts1 σ 23 (σ.1 23 + 1)).1 23 = σ.1 23 + 1 := ts1_eq
      (repeat (first | (refine TW.getf rfl rfl rfl (fun _ => ?_)) | (refine TW.pl rfl rfl ?_)))
      refine TW.putf rfl rfl (by omega) ?_
      (repeat (first | (refine TW.getf rfl rfl rfl (fun _ => ?_)) | (refine TW.pl rfl rfl ?_)))
      refine TW.cv0 rfl rfl rfl (Nat.le_of_ble_eq_true rfl) (T_failG (hs.setP (l' := l) (by rw [hp1, Int.add_sub_cancel]; exact h.2.1))) ?_
      rintro _ τ ⟨rfl, hb⟩
      exact TW.vret rfl (PY.bad hb (by decide) rfl)
  have key22 : TW (d + 9) tc_plainAct 22 [some (.inr 0), some (.inl (b2i inner)), some (.inl (b2i hw)), some (.inl c), some (.inl (b2i (isOut c)))] [] σ (PY fs σ0 s (rs (pAct inner w l))) := by
    have eF : (l = [] ∨ (isOut c = true ∧ inner = true) ∨ (c = 58 ∧ (w.1 = true ∨ w.2.1 ≠ none))) → pAct inner w l = .inl l := by
      intro z
      unfold pAct
      dsimp only
      rw [hc, if_pos z]
    have at31 : ¬ (isOut c = true ∧ inner = true) → ¬ (c = 58 ∧ (w.1 = true ∨ w.2.1 ≠ none)) → TW (d + 9) tc_plainAct 31 [some (.inr 0), some (.inl (b2i inner)), some (.inl (b2i hw)), some (.inl c), some (.inl (b2i (isOut c)))] [] σ (PY fs σ0 s (rs (pAct inner w l))) := by
      intro z1 z2
      (repeat (first | (refine TW.getf rfl rfl rfl (fun _ => ?_)) | (refine TW.pl rfl rfl ?_)))
      refine TW.br rfl rfl (by first | omega | exact b2i_R _ | exact ⟨b2i_R _, by omega⟩) (fun z3 => ?_) (fun z3 => ?_)
      · refine main39 _ (fun z => ?_)
        rcases z with z | z | z
        · rw [z] at hdr; simp at hdr; omega
        · exact z1 z
        · exact z2 z
      · rw [eF (Or.inl (List.length_eq_zero_iff.mp (by omega)))]
        exact fail36 _
    have at26 : ¬ (isOut c = true ∧ inner = true) → TW (d + 9) tc_plainAct 26 [some (.inr 0), some (.inl (b2i inner)), some (.inl (b2i hw)), some (.inl c), some (.inl (b2i (isOut c)))] [] σ (PY fs σ0 s (rs (pAct inner w l))) := by
      intro z1
      (repeat (first | (refine TW.getf rfl rfl rfl (fun _ => ?_)) | (refine TW.pl rfl rfl ?_)))
      refine TW.br rfl rfl (by first | omega | exact b2i_R _ | exact ⟨b2i_R _, by omega⟩) (fun z2 => ?_) (fun z2 => ?_)
      · exact at31 z1 (fun z => z2 z.1)
      (repeat (first | (refine TW.getf rfl rfl rfl (fun _ => ?_)) | (refine TW.pl rfl rfl ?_)))
      refine TW.br rfl rfl (by first | omega | exact b2i_R _ | exact ⟨b2i_R _, by omega⟩) (fun z3 => ?_) (fun z3 => ?_)
      · rw [eF (Or.inr (Or.inr ⟨z2, hhw.mp (b2i_1 z3)⟩))]
        exact fail36 _
      · exact at31 z1 (fun z => by rw [← hhw, b2i_0 z3] at z; cases z.2)
    (repeat (first | (refine TW.getf rfl rfl rfl (fun _ => ?_)) | (refine TW.pl rfl rfl ?_)))
    refine TW.br rfl rfl (by first | omega | exact b2i_R _ | exact ⟨b2i_R _, by omega⟩) (fun y1 => ?_) (fun y1 => ?_)
    · exact at26 (fun z => by rw [b2i_0 y1] at z; cases z.1)
    (repeat (first | (refine TW.getf rfl rfl rfl (fun _ => ?_)) | (refine TW.pl rfl rfl ?_)))
    refine TW.br rfl rfl (by first | omega | exact b2i_R _ | exact ⟨b2i_R _, by omega⟩) (fun y2 => ?_) (fun y2 => ?_)
    · rw [eF (Or.inr (Or.inl ⟨b2i_1 y1, b2i_1 y2⟩))]
      exact fail36 _
    · exact at26 (fun z => by rw [b2i_0 y2] at z; cases z.2)
  have yes18 : isOut c = true → TW (d + 9) tc_plainAct 18 [some (.inr 0), some (.inl (b2i inner)), some (.inl (b2i hw)), some (.inl c), none] [] σ (PY fs σ0 s (rs (pAct inner w l))) := by
    intro z
    (iterate 3 (first | (refine TW.getf rfl rfl rfl (fun _ => ?_)) | (refine TW.pl rfl rfl ?_)))
    have K := key22
    rw [z] at K
    exact K
  have goal : TW (d + 9) tc_plainAct 0 [some (.inr 0), some (.inl (b2i inner)), some (.inl (b2i hw)), none, none] [] σ (PY fs σ0 s (rs (pAct inner w l))) := by
    (repeat (first | (refine TW.getf rfl rfl rfl (fun _ => ?_)) | (refine TW.pl rfl rfl ?_)))
    refine TW.cv0 rfl rfl rfl (Nat.le_of_ble_eq_true rfl) (T_c h) ?_; rintro _ _ ⟨rfl, rfl⟩
    rw [hc]
    (repeat (first | (refine TW.getf rfl rfl rfl (fun _ => ?_)) | (refine TW.pl rfl rfl ?_)))
    refine TW.br rfl rfl (by first | omega | exact b2i_R _ | exact ⟨b2i_R _, by omega⟩) (fun m1 => ?_) (fun m1 => ?_)
    · exact yes18 (by rw [m1]; rfl)
    (repeat (first | (refine TW.getf rfl rfl rfl (fun _ => ?_)) | (refine TW.pl rfl rfl ?_)))
    refine TW.br rfl rfl (by first | omega | exact b2i_R _ | exact ⟨b2i_R _, by omega⟩) (fun m2 => ?_) (fun m2 => ?_)
    · exact yes18 (by rw [m2]; rfl)
    (repeat (first | (refine TW.getf rfl rfl rfl (fun _ => ?_)) | (refine TW.pl rfl rfl ?_)))
    refine TW.br rfl rfl (by first | omega | exact b2i_R _ | exact ⟨b2i_R _, by omega⟩) (fun m3 => ?_) (fun m3 => ?_)
    · exact yes18 (by rw [m3]; rfl)
    (repeat (first | (refine TW.getf rfl rfl rfl (fun _ => ?_)) | (refine TW.pl rfl rfl ?_)))
    refine TW.br rfl rfl (by first | omega | exact b2i_R _ | exact ⟨b2i_R _, by omega⟩) (fun m4 => ?_) (fun m4 => ?_)
    · exact yes18 (by rw [m4]; rfl)
    (repeat (first | (refine TW.getf rfl rfl rfl (fun _ => ?_)) | (refine TW.pl rfl rfl ?_)))
    refine TW.br rfl rfl (by first | omega | exact b2i_R _ | exact ⟨b2i_R _, by omega⟩) (fun m5 => ?_) (fun m5 => ?_)
    · (iterate 2 (first | (refine TW.getf rfl rfl rfl (fun _ => ?_)) | (refine TW.pl rfl rfl ?_)))
      have K := key22
      have z : isOut c = false := by
        unfold isOut
        simp only [List.contains_cons, List.contains_nil, Bool.or_false, Bool.or_eq_false_iff, beq_eq_false_iff_ne, ne_eq]
        exact ⟨m1, m2, m3, m4, m5⟩
      rw [z] at K
      exact K
    · exact yes18 (by rw [m5]; rfl)
  unfold pAct at goal
  dsimp only at goal
  rw [hc] at goal
  exact goal
/-- the places that reading writes -/
abbrev fW : List Nat := [23, 24, 25, 26, 27, 28, 29, 30]
theorem PX.cv {α : Type} {R : PR α} {K : List Int → α → TS → Prop} {r : Option Int} {τ : TS} (h : PX fs σ0 s 4 R K r τ) (hK : ∀ l v, K l v τ → PGx fs σ0 s l τ) : PY fs σ0 s (rs R) r τ := by
  refine ⟨h.1, ?_⟩
  have := h.2
  cases R with
  | inl f => exact this
  | inr w => exact hK _ _ this
theorem T_innerOrder (hfs : ∀ k, 27 ≤ k → k ≤ 30 → k ∈ fs) (h : PGx fs σ0 s l σ) : TM (d + 11) tk_innerOrder [.inr 0] σ (PY fs σ0 s (rs (pInner l))) := by
  refine TM.of rfl rfl ?_
  unfold pInner
  (repeat (first | (refine TW.getf rfl rfl rfl (fun _ => ?_)) | (refine TW.pl rfl rfl ?_)))
  refine TW.cv0 rfl rfl rfl (Nat.le_of_ble_eq_true rfl) (T_where hfs h) ?_
  rintro _ τ ⟨rfl, hp⟩
  (repeat (first | (refine TW.getf rfl rfl rfl (fun _ => ?_)) | (refine TW.pl rfl rfl ?_)))
  revert hp
  cases pWhere l with
  | inl f =>
    intro hp
    have hb : PB fs σ0 s 4 f τ := hp
    have := hb.bad0
    refine TW.br rfl rfl (by first | omega | exact b2i_R _ | exact ⟨b2i_R _, by omega⟩) (fun h1 => ?_) (fun h1 => ?_)
    · exact TW.vret rfl (PY.bad hb (by decide) rfl)
    · omega
  | inr v =>
    obtain ⟨l1, w⟩ := v
    rintro ⟨⟨g1, s1, hg⟩, hw⟩
    have hb := hg.2.2.1
    dsimp only
    refine TW.br rfl rfl (by first | omega | exact b2i_R _ | exact ⟨b2i_R _, by omega⟩) (fun h1 => ?_) (fun h1 => ?_)
    · omega
    have hk := hw.1
    have hwk : (0 < (τ.1 27)) ↔ (w.1 = true ∨ w.2.1 ≠ none) := by
      rw [hk]
      obtain ⟨a, b, c⟩ := w
      unfold wKind
      cases a <;> cases b <;> cases c <;> simp
    (repeat (first | (refine TW.getf rfl rfl rfl (fun _ => ?_)) | (refine TW.pl rfl rfl ?_)))
    refine TW.br rfl rfl (by first | omega | exact b2i_R _ | exact ⟨b2i_R _, by omega⟩) (fun h2 => ?_) (fun h2 => ?_)
    · (iterate 1 (first | (refine TW.getf rfl rfl rfl (fun _ => ?_)) | (refine TW.pl rfl rfl ?_)))
      refine TW.cv2 rfl rfl rfl (Nat.le_of_ble_eq_true rfl) (T_plainAct (inner := true) (hw := false) (w := w) (by constructor; intro z; cases z; intro z; have := hwk.mpr z; omega) ⟨_, _, hg⟩) ?_
      rintro _ υ hp
      obtain ⟨rfl, -⟩ := id hp
      exact TW.vret rfl hp
    · (iterate 2 (first | (refine TW.getf rfl rfl rfl (fun _ => ?_)) | (refine TW.pl rfl rfl ?_)))
      refine TW.cv2 rfl rfl rfl (Nat.le_of_ble_eq_true rfl) (T_plainAct (inner := true) (hw := true) (w := w) (by constructor; intro z; exact hwk.mp (by omega); intro z; rfl) ⟨_, _, hg⟩) ?_
      rintro _ υ hp
      obtain ⟨rfl, -⟩ := id hp
      exact TW.vret rfl hp
theorem dw_len (p : Int → Bool) (l : List Int) : (l.dropWhile p).length ≤ l.length := by
  induction l with
  | nil => simp
  | cons a l ih => rw [List.dropWhile_cons]; split <;> simp <;> omega
theorem tl_len (l : List Int) : l.tail.length ≤ l.length := by simp
/-- what is left never grows -/
def Shr {α : Type} (R : PR α) (n : Nat) : Prop := ∀ l v, R = .inr (l, v) → l.length ≤ n
theorem Shr.le {α : Type} {R : PR α} {n k : Nat} (h : Shr R n) (hk : n ≤ k) : Shr R k := fun l v e => Nat.le_trans (h l v e) hk
theorem Shr.inl {α : Type} {n : Nat} : Shr (.inl f : PR α) n := fun _ _ e => by cases e
theorem Shr.inr {α : Type} {n : Nat} {v : α} (h : l.length ≤ n) : Shr (.inr (l, v) : PR α) n := fun _ _ e => by cases e; exact h
theorem Shr.ite {α : Type} {n : Nat} {c : Prop} [Decidable c] {R R' : PR α} (h : Shr R n) (h' : Shr R' n) : Shr (if c then R else R') n := by split <;> assumption
theorem pNum_shr : Shr (pNum l) l.length := by
  unfold pNum
  exact .ite (.ite (.inr (by simp; omega)) (.inr (by simp))) .inl
theorem pPlain_shr : Shr (pPlain st l) l.length := by
  unfold pPlain
  dsimp only
  refine .ite .inl (.ite (.ite (.inr (by simp)) .inl) (.ite (.inr (by simp)) (.ite (.ite .inl (.ite (.inr ?_) .inl)) (.ite (.inr (by simp)) .inl))))
  refine Nat.le_trans (tl_len _) (Nat.le_trans (dw_len _ _) ?_)
  split <;> simp
  omega
theorem pGrp_shr : ∀ (k st : Nat) (acc : List SPart) (l : List Int), Shr (pGrp k st acc l) l.length := by
  intro k
  induction k with
  | zero => intro st acc l; unfold pGrp; exact .ite (.inr (by simp)) .inl
  | succ k ih =>
    intro st acc l
    unfold pGrp
    refine .ite (.inr (by simp)) ?_
    dsimp only
    have := @pPlain_shr l st
    cases hp : pPlain st l with
    | inl f => exact .inl
    | inr v => exact (ih _ _ _).le (this _ _ hp)
theorem pItem_shr : Shr (pItem gr st l) l.length := by
  unfold pItem
  refine .ite (.ite ?_ .inl) (.ite (.ite (.ite (.inr (by simp; omega)) .inl) .inl) ?_)
  · cases hp : pGrp 12 st [] l.tail with
    | inl f => exact .inl
    | inr v => exact .inr (Nat.le_trans (pGrp_shr _ _ _ _ _ _ hp) (tl_len _))
  · cases hp : pPlain st l with
    | inl f => exact .inl
    | inr v => exact .inr (pPlain_shr _ _ hp)
theorem pItems_shr (e : Int) : ∀ (k gr st : Nat) (acc : List SPart) (l : List Int), Shr (pItems e k gr st acc l) l.length := by
  intro k
  induction k with
  | zero => intro gr st acc l; unfold pItems; exact .ite (.inr (Nat.le_refl _)) .inl
  | succ k ih =>
    intro gr st acc l
    unfold pItems
    refine .ite (.inr (Nat.le_refl _)) ?_
    dsimp only
    cases hp : pItem gr st l with
    | inl f => exact .inl
    | inr v => exact (ih _ _ _ _).le (pItem_shr _ _ hp)
theorem pPat_shr (e : Int) : Shr (pPat e l) l.length := by
  unfold pPat
  dsimp only
  cases hp : pItems e 12 0 0 [] (if decide (hd l = 94) = true then l.tail else l) with
  | inl f => exact .inl
  | inr v =>
    refine .ite .inl (.inr ?_)
    have := pItems_shr _ _ _ _ _ _ _ _ hp
    have h2 : (if decide (hd l = 94) = true then l.tail else l).length ≤ l.length := by split <;> simp
    have h3 : (if decide (hd v.1 = 36) = true then v.1.tail else v.1).length ≤ v.1.length := by split <;> simp
    omega
theorem pSpot_shr : Shr (pSpot l) l.length := by
  unfold pSpot
  refine .ite ?_ (.ite (.ite (.inr (by simp; omega)) .inl) (.ite ?_ (.ite (.inr (by simp)) .inl)))
  · cases hp : pNum l with
    | inl f => exact .inl
    | inr v => exact .inr (pNum_shr _ _ hp)
  · cases hp : pPat (hd l) l.tail with
    | inl f => exact .inl
    | inr v =>
      have := pPat_shr _ _ _ hp
      refine .ite (.inr ?_) .inl
      simp at this ⊢
      omega
theorem pMore_shr : ∀ (k : Nat) (v : Int) (b : Bool) (l : List Int), Shr (pMore k v b l) l.length := by
  intro k
  induction k with
  | zero => intro v b l; unfold pMore; exact .ite .inl (.inr (Nat.le_refl _))
  | succ k ih =>
    intro v b l
    unfold pMore
    refine .ite ?_ (.inr (Nat.le_refl _))
    dsimp only
    cases hp : pNum l.tail with
    | inl f => exact .inl
    | inr v => exact (ih _ _ _).le (Nat.le_trans (pNum_shr _ _ hp) (tl_len _))
theorem pAdr_shr : Shr (pAdr l) l.length := by
  unfold pAdr
  cases hp : pSpot l with
  | inl f => exact .inl
  | inr v =>
    dsimp only
    cases hq : pMore v.1.length 0 false v.1 with
    | inl f => exact .inl
    | inr w => exact .inr (Nat.le_trans (pMore_shr _ _ _ _ _ _ hq) (pSpot_shr _ _ hp))
theorem pWhere_shr : Shr (pWhere l) l.length := by
  unfold pWhere
  refine .ite (.inr (by simp)) (.ite ?_ (.inr (Nat.le_refl _)))
  cases hp : pAdr l with
  | inl f => exact .inl
  | inr v =>
    have h1 := pAdr_shr _ _ hp
    dsimp only
    refine .ite ?_ (.inr h1)
    cases hq : pAdr v.1.tail with
    | inl f => exact .inl
    | inr w => exact .inr (Nat.le_trans (pAdr_shr _ _ hq) (Nat.le_trans (tl_len _) h1))
theorem pRows_shr : ∀ (k : Nat) (l : List Int), Shr (pRows k l) l.length := by
  intro k
  induction k with
  | zero => intro l; unfold pRows; exact .ite .inl (.ite .inl (.inr (dw_len _ _)))
  | succ k ih =>
    intro l
    unfold pRows
    refine .ite .inl (.ite ?_ (.inr (dw_len _ _)))
    dsimp only
    cases hp : pRows k (l.dropWhile isChr).tail with
    | inl f => exact .inl
    | inr v => exact .inr (Nat.le_trans (ih _ _ _ hp) (Nat.le_trans (tl_len _) (dw_len _ _)))
theorem pPut_shr (c : Nat) : ∀ (k : Nat) (l : List Int), Shr (pPut c k l) l.length := by
  intro k
  induction k with
  | zero => intro l; unfold pPut; exact .ite (.ite (.ite .inl .inl) .inl) (.ite .inl (.inr (Nat.le_refl _)))
  | succ k ih =>
    intro l
    unfold pPut
    dsimp only
    refine .ite (.ite (.ite ?_ .inl) .inl) (.ite ?_ (.inr (Nat.le_refl _)))
    · cases hp : pPut c k l.tail.tail with
      | inl f => exact .inl
      | inr v => exact .inr (Nat.le_trans (ih _ _ _ hp) (Nat.le_trans (tl_len _) (tl_len _)))
    · cases hp : pPut c k l.tail with
      | inl f => exact .inl
      | inr v => exact .inr (Nat.le_trans (ih _ _ _ hp) (tl_len _))
theorem pRepl_shr : Shr (pRepl l) l.length := by
  unfold pRepl
  refine .ite ?_ .inl
  cases hp : pPat 47 l.tail with
  | inl f => exact .inl
  | inr v =>
    have h1 := pPat_shr _ _ _ hp
    dsimp only
    refine .ite ?_ .inl
    cases hq : pPut v.2.1 v.1.length v.1.tail with
    | inl f => exact .inl
    | inr w =>
      have h2 := pPut_shr _ _ _ _ _ hq
      have h3 := tl_len l
      have h4 := tl_len v.1
      have h5 := tl_len w.1
      have h6 := tl_len w.1.tail
      dsimp only
      exact .ite (.ite (.inr (by omega)) (.ite (.inr (by omega)) (.inr (by omega)))) .inl
theorem pTurn_shr : Shr (pTurn l) l.length := by
  unfold pTurn
  dsimp only
  refine .ite (.ite .inl (.ite (.ite .inl (.ite (.inr ?_) .inl)) .inl)) .inl
  have := dw_len isChr l.tail
  simp at this ⊢
  omega
theorem pAct_shr {inner : Bool} {w : Bool × Option SAdr × Option SAdr} : Shr (pAct inner w l) l.length := by
  have ht := tl_len l
  have htt := tl_len l.tail
  unfold pAct
  dsimp only
  refine .ite .inl (.ite ?_ (.ite ?_ (.ite ?_ (.ite (.ite (.inr (by omega)) .inl) (.ite (.ite (.inr (by omega)) .inl) (.ite (.ite (.inr (by omega)) .inl) (.ite (.ite (.inr (by omega)) (.inr (by omega))) (.ite ?_ (.ite ?_ (.ite (.inr (by omega)) .inl))))))))))
  · cases hp : pRows l.tail.length l.tail with
    | inl f => exact .inl
    | inr v => exact .inr (Nat.le_trans (pRows_shr _ _ _ _ hp) ht)
  · cases hp : pNum l.tail with
    | inl f => exact .inl
    | inr v => exact .inr (Nat.le_trans (pNum_shr _ _ hp) ht)
  · cases hp : pAdr l.tail with
    | inl f => exact .inl
    | inr v => exact .inr (Nat.le_trans (pAdr_shr _ _ hp) ht)
  · cases hp : pRepl l.tail with
    | inl f => exact .inl
    | inr v => exact .inr (Nat.le_trans (pRepl_shr _ _ hp) ht)
  · cases hp : pTurn l.tail with
    | inl f => exact .inl
    | inr v => exact .inr (Nat.le_trans (pTurn_shr _ _ hp) ht)
theorem pInner_shr : Shr (pInner l) l.length := by
  unfold pInner
  cases hp : pWhere l with
  | inl f => exact .inl
  | inr v => exact pAct_shr.le (pWhere_shr _ _ hp)
theorem pInners_shr : ∀ (k : Nat) (l : List Int), Shr (pInners k l) l.length := by
  intro k
  induction k with
  | zero =>
    intro l
    unfold pInners
    cases hp : pInner l with
    | inl f => exact .inl
    | inr v => exact .ite .inl (.inr (pInner_shr _ _ hp))
  | succ k ih =>
    intro l
    unfold pInners
    cases hp : pInner l with
    | inl f => exact .inl
    | inr v =>
      have h1 := pInner_shr _ _ hp
      dsimp only
      refine .ite ?_ (.inr h1)
      cases hq : pInners k v.1.tail with
      | inl f => exact .inl
      | inr w => exact .inr (Nat.le_trans (ih _ _ _ hq) (Nat.le_trans (tl_len _) h1))
theorem pBlock_shr : Shr (pBlock l) l.length := by
  unfold pBlock
  refine .ite ?_ .inl
  cases hp : pInners l.length l.tail with
  | inl f => exact .inl
  | inr v => exact .ite (.inr (Nat.le_trans (tl_len _) (Nat.le_trans (pInners_shr _ _ _ _ hp) (tl_len _)))) .inl
theorem pOrder_shr : Shr (pOrder l) l.length := by
  unfold pOrder
  cases hp : pWhere l with
  | inl f => exact .inl
  | inr v =>
    have h1 := pWhere_shr _ _ hp
    dsimp only
    refine .ite ?_ (.ite (.ite ?_ .inl) ?_)
    · cases hq : pBlock v.1 with
      | inl f => exact .inl
      | inr w => exact .inr (Nat.le_trans (pBlock_shr _ _ hq) h1)
    · cases hq : pPat 47 v.1.tail.tail with
      | inl f => exact .inl
      | inr w =>
        have h2 := pPat_shr _ _ _ hq
        have h3 := tl_len v.1
        have h4 := tl_len v.1.tail
        have h5 := tl_len w.1
        dsimp only
        refine .ite (.ite ?_ ?_) .inl
        · cases hr : pBlock w.1.tail with
          | inl f => exact .inl
          | inr u => have := pBlock_shr _ _ hr; exact .inr (by omega)
        · cases hr : pInner w.1.tail with
          | inl f => exact .inl
          | inr u => have := pInner_shr _ _ hr; exact .inr (by omega)
    · cases hq : pAct false v.2 v.1 with
      | inl f => exact .inl
      | inr w => exact .inr (Nat.le_trans (pAct_shr _ _ hq) h1)
end TAll
