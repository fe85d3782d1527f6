set_option maxRecDepth 100000
/-! the twin reads blocks, orders, whole texts -/
def pInE (k : Nat) (l1 : List Int) : PR Unit := if hd l1 = 59 then (match k with
  | 0 => .inl l1
  | k + 1 => rs (pInners k l1.tail)) else .inr (l1, ())
def pBlE : PR Unit → PR Unit
  | .inl f => .inl f
  | .inr (l1, _) => if hd l1 = 125 then .inr (l1.tail, ()) else .inl l1
def pOrE (k : Nat) (l1 : List Int) : PR Unit := if hd l1 = 59 then (match k with
  | 0 => .inl l1
  | k + 1 => rs (pOrders k l1.tail)) else .inr (l1, ())
def GS (σ : TS) : Prop := (0 ≤ (σ.1 25) ∧ (σ.1 25) ≤ 4) ∧ 0 ≤ (σ.1 26) ∧ (σ.1 26) ≤ 4
section TO
variable {d : Nat} {σ σ0 : TS} {s l f : List Int} {fs : List Nat} {gr st : Nat} {m : Int}
theorem pInners_E {k : Nat} {l : List Int} : rs (pInners k l) = match pInner l with
    | .inl f => .inl f
    | .inr (l1, _) => pInE k l1 := by
  cases k with
  | zero =>
    unfold pInners pInE
    cases pInner l with
    | inl f => rfl
    | inr v => dsimp only; split <;> rfl
  | succ k =>
    unfold pInners pInE
    cases pInner l with
    | inl f => rfl
    | inr v =>
      dsimp only
      split
      · cases pInners k v.1.tail <;> rfl
      · rfl
theorem pOrders_E {k : Nat} {l : List Int} : rs (pOrders k l) = match pOrder l with
    | .inl f => .inl f
    | .inr (l1, _) => pOrE k l1 := by
  cases k with
  | zero =>
    unfold pOrders pOrE
    cases pOrder l with
    | inl f => rfl
    | inr v => dsimp only; split <;> rfl
  | succ k =>
    unfold pOrders pOrE
    cases pOrder l with
    | inl f => rfl
    | inr v =>
      dsimp only
      split
      · cases pOrders k v.1.tail <;> rfl
      · rfl
theorem T_block (hfs : ∀ k, 27 ≤ k → k ≤ 30 → k ∈ fs) (h : PGx fs σ0 s l σ) (h123 : hd l = 123) : TM (d + 12) tk_block [.inr 0] σ (PY fs σ0 s (rs (pBlock l))) := by
  obtain ⟨gr, st, h⟩ := h
  refine TM.of rfl rfl ?_
  have finB : ∀ (υ : TS) (f : List Int), PB fs σ0 s 4 f υ → TW (d + 11) tc_block 5 [some (.inr 0)] [] υ (PY fs σ0 s (.inl f)) := by
    intro υ f hb
    have := hb.bad0
    (repeat (first | (refine TW.getf rfl rfl rfl (fun _ => ?_)) | (refine TW.pl rfl rfl ?_)))
    refine TW.br rfl rfl (by first | omega | exact b2i_R _ | exact ⟨b2i_R _, by omega⟩) (fun h1 => ?_) (fun h1 => ?_)
    · (repeat (first | (refine TW.getf rfl rfl rfl (fun _ => ?_)) | (refine TW.pl rfl rfl ?_)))
      refine TW.cv1 rfl rfl rfl (Nat.le_of_ble_eq_true rfl) (T_takeB hb (by decide)) ?_
      rintro _ υ1 ⟨rfl, hb1⟩
      exact TW.vret rfl (PY.bad hb1 (by decide) rfl)
    · omega
  have loop : ∀ (k : Nat) (q : List Int) (υ : TS), q.length ≤ k → PGx fs σ0 s q υ → TW (d + 11) tc_block 5 [some (.inr 0)] [] υ (PY fs σ0 s (pBlE (pInE k q))) := by
    intro k
    induction k with
    | zero =>
      intro q υ hk hq
      obtain ⟨g1, s1, hq⟩ := hq
      have hb := hq.2.2.1
      have hdr := hq.hdR
      have hq0 : q = [] := List.length_eq_zero_iff.mp (by omega)
      subst hq0
      (repeat (first | (refine TW.getf rfl rfl rfl (fun _ => ?_)) | (refine TW.pl rfl rfl ?_)))
      refine TW.br rfl rfl (by first | omega | exact b2i_R _ | exact ⟨b2i_R _, by omega⟩) (fun h1 => ?_) (fun h1 => ?_)
      · omega
      (repeat (first | (refine TW.getf rfl rfl rfl (fun _ => ?_)) | (refine TW.pl rfl rfl ?_)))
      refine TW.cv0 rfl rfl rfl (Nat.le_of_ble_eq_true rfl) (T_c hq) ?_; rintro _ _ ⟨rfl, rfl⟩
      (repeat (first | (refine TW.getf rfl rfl rfl (fun _ => ?_)) | (refine TW.pl rfl rfl ?_)))
      refine TW.br rfl rfl (by first | omega | exact b2i_R _ | exact ⟨b2i_R _, by omega⟩) (fun h2 => ?_) (fun h2 => ?_)
      · (repeat (first | (refine TW.getf rfl rfl rfl (fun _ => ?_)) | (refine TW.pl rfl rfl ?_)))
        refine TW.cv1 rfl rfl rfl (Nat.le_of_ble_eq_true rfl) (T_take hq (by decide)) ?_
        rintro _ υ1 ⟨rfl, -, q2⟩
        exact TW.vret rfl (PY.bad (q2 (by decide)) (by decide) rfl)
      · exact absurd h2 (by decide)
    | succ k ih =>
      intro q υ hk hq
      obtain ⟨g1, s1, hq⟩ := hq
      have hb := hq.2.2.1
      have hdr := hq.hdR
      unfold pInE
      (repeat (first | (refine TW.getf rfl rfl rfl (fun _ => ?_)) | (refine TW.pl rfl rfl ?_)))
      refine TW.br rfl rfl (by first | omega | exact b2i_R _ | exact ⟨b2i_R _, by omega⟩) (fun h1 => ?_) (fun h1 => ?_)
      · omega
      (repeat (first | (refine TW.getf rfl rfl rfl (fun _ => ?_)) | (refine TW.pl rfl rfl ?_)))
      refine TW.cv0 rfl rfl rfl (Nat.le_of_ble_eq_true rfl) (T_c hq) ?_; rintro _ _ ⟨rfl, rfl⟩
      (repeat (first | (refine TW.getf rfl rfl rfl (fun _ => ?_)) | (refine TW.pl rfl rfl ?_)))
      refine TW.br rfl rfl (by first | omega | exact b2i_R _ | exact ⟨b2i_R _, by omega⟩) (fun h2 => ?_) (fun h2 => ?_)
      · rw [if_neg h2]
        unfold pBlE
        dsimp only
        (repeat (first | (refine TW.getf rfl rfl rfl (fun _ => ?_)) | (refine TW.pl rfl rfl ?_)))
        refine TW.cv1 rfl rfl rfl (Nat.le_of_ble_eq_true rfl) (T_take hq (by decide)) ?_
        rintro _ υ1 ⟨rfl, q1, q2⟩
        refine TW.vret rfl ?_
        by_cases h3 : hd q = 125
        · rw [if_pos h3]; exact PY.good (q1 h3) (by decide) rfl
        · rw [if_neg h3]; exact PY.bad (q2 h3) (by decide) rfl
      · rw [if_pos h2]
        have hn : q ≠ [] := hd_ne h2 (by decide)
        have hll := List.length_pos_iff.mpr hn
        dsimp only
        rw [pInners_E]
        (repeat (first | (refine TW.getf rfl rfl rfl (fun _ => ?_)) | (refine TW.pl rfl rfl ?_)))
        refine TW.putf rfl rfl (by omega) ?_
        (repeat (first | (refine TW.getf rfl rfl rfl (fun _ => ?_)) | (refine TW.pl rfl rfl ?_)))
        refine TW.cv0 rfl rfl rfl (Nat.le_of_ble_eq_true rfl) (T_innerOrder hfs ⟨_, _, hq.step hn rfl⟩) ?_
        rintro _ υ1 ⟨rfl, hp⟩
        (iterate 1 (first | (refine TW.getf rfl rfl rfl (fun _ => ?_)) | (refine TW.pl rfl rfl ?_)))
        revert hp
        cases hi : pInner q.tail with
        | inl f => exact fun hp => finB _ _ hp
        | inr v =>
          have := pInner_shr _ _ hi
          exact fun hp => ih v.1 υ1 (by simp at this; omega) hp
  (repeat (first | (refine TW.getf rfl rfl rfl (fun _ => ?_)) | (refine TW.pl rfl rfl ?_)))
  refine TW.cv1 rfl rfl rfl (Nat.le_of_ble_eq_true rfl) (T_take h (by decide)) ?_
  rintro _ τ ⟨rfl, p1, -⟩
  have hp := p1 h123
  unfold pBlock
  rw [if_pos h123]
  have hn := List.length_pos_iff.mpr (hd_ne h123 (by decide))
  (repeat (first | (refine TW.getf rfl rfl rfl (fun _ => ?_)) | (refine TW.pl rfl rfl ?_)))
  refine TW.cv0 rfl rfl rfl (Nat.le_of_ble_eq_true rfl) (T_innerOrder hfs ⟨_, _, hp⟩) ?_
  rintro _ υ ⟨rfl, hq⟩
  have e : rs (match pInners l.length l.tail with
    | .inl f => .inl f
    | .inr (l1, os) => if hd l1 = 125 then .inr (l1.tail, os) else .inl l1 : PR (List SOrd0)) = pBlE (rs (pInners l.length l.tail)) := by
    cases pInners l.length l.tail with
    | inl f => rfl
    | inr v =>
      show rs (if hd v.1 = 125 then .inr (v.1.tail, v.2) else .inl v.1) = if hd v.1 = 125 then .inr (v.1.tail, ()) else .inl v.1
      by_cases h5 : hd v.1 = 125
      · rw [if_pos h5, if_pos h5]; rfl
      · rw [if_neg h5, if_neg h5]; rfl
  have goal : TW (d + 11) tc_block 5 [some (.inr 0)] [] υ (PY fs σ0 s (pBlE (rs (pInners l.length l.tail)))) := by
    rw [pInners_E]
    revert hq
    cases hi : pInner l.tail with
    | inl f => exact fun hp => finB _ _ hp
    | inr v =>
      have := pInner_shr _ _ hi
      exact fun hp => loop _ v.1 υ (by simp at this; omega) hp
  rw [← e] at goal
  exact goal
theorem wk_iff {w : Bool × Option SAdr × Option SAdr} : (0 < wKind w) ↔ (w.1 = true ∨ w.2.1 ≠ none) := by
  obtain ⟨a, b, c⟩ := w
  unfold wKind
  cases a <;> cases b <;> cases c <;> simp
theorem PY.oth {R : PR Unit} {r : Option Int} {τ : TS} (h : PY fs σ0 s R r τ) {k : Nat} {v : Int} (hk : k ∈ fs) (h1 : 27 ≤ k) : PY fs σ0 s R r (ts1 τ k v) := by
  refine ⟨h.1, ?_⟩
  have := h.2
  cases R with
  | inl f => exact PB.oth this hk h1
  | inr w =>
    obtain ⟨g, t, hg⟩ := this
    exact ⟨g, t, hg.oth hk h1⟩
theorem T_order (hfs : ∀ k, 27 ≤ k → k ≤ 30 → k ∈ fs) (h : PGx fs σ0 s l σ) : TM (d + 13) tk_order [.inr 0] σ (PY fs σ0 s (rs (pOrder l))) := by
  refine TM.of rfl rfl ?_
  have fin71 : ∀ (υ : TS) (R : PR Unit) (x y : Int), inR x → inR y → PY fs σ0 s R none υ → TW (d + 12) tc_order 71 [some (.inr 0), some (.inl x), some (.inl y)] [] υ (PY fs σ0 s R) := by
    intro υ R x y hx hy hp
    (repeat (first | (refine TW.getf rfl rfl rfl (fun _ => ?_)) | (refine TW.pl rfl rfl ?_)))
    refine TW.putf rfl rfl hx ?_
    (repeat (first | (refine TW.getf rfl rfl rfl (fun _ => ?_)) | (refine TW.pl rfl rfl ?_)))
    refine TW.putf rfl rfl hy ?_
    exact TW.vret rfl ((hp.oth (hfs 27 (by decide) (by decide)) (by decide)).oth (hfs 30 (by decide) (by decide)) (by decide))
  unfold pOrder
  (repeat (first | (refine TW.getf rfl rfl rfl (fun _ => ?_)) | (refine TW.pl rfl rfl ?_)))
  refine TW.cv0 rfl rfl rfl (Nat.le_of_ble_eq_true rfl) (T_where hfs h) ?_
  rintro _ τ ⟨rfl, hp⟩
  (repeat (first | (refine TW.getf rfl rfl rfl (fun _ => ?_)) | (refine TW.pl rfl rfl ?_)))
  revert hp
  cases pWhere l with
  | inl f =>
    intro hp
    have hb : PB fs σ0 s 4 f τ := hp
    have := hb.bad0
    refine TW.br rfl rfl (by first | omega | exact b2i_R _ | exact ⟨b2i_R _, by omega⟩) (fun h1 => ?_) (fun h1 => ?_)
    · (repeat (first | (refine TW.getf rfl rfl rfl (fun _ => ?_)) | (refine TW.pl rfl rfl ?_)))
      refine TW.br rfl rfl (by first | omega | exact b2i_R _ | exact ⟨b2i_R _, by omega⟩) (fun h2 => ?_) (fun h2 => ?_)
      · (repeat (first | (refine TW.getf rfl rfl rfl (fun _ => ?_)) | (refine TW.pl rfl rfl ?_)))
        refine TW.br rfl rfl (by first | omega | exact b2i_R _ | exact ⟨b2i_R _, by omega⟩) (fun h3 => ?_) (fun h3 => ?_)
        · exact fin71 _ _ _ _ (by assumption) (by assumption) (PY.bad hb (by decide) rfl)
        · omega
      · omega
    · omega
  | inr v =>
    obtain ⟨l1, w⟩ := v
    rintro ⟨⟨g1, s1, hg⟩, hw⟩
    have hb := hg.2.2.1
    have hdr := hg.hdR
    have hk := hw.1
    dsimp only
    refine TW.br rfl rfl (by first | omega | exact b2i_R _ | exact ⟨b2i_R _, by omega⟩) (fun h1 => ?_) (fun h1 => ?_)
    · omega
    (repeat (first | (refine TW.getf rfl rfl rfl (fun _ => ?_)) | (refine TW.pl rfl rfl ?_)))
    refine TW.cv0 rfl rfl rfl (Nat.le_of_ble_eq_true rfl) (T_c hg) ?_; rintro _ _ ⟨rfl, rfl⟩
    (repeat (first | (refine TW.getf rfl rfl rfl (fun _ => ?_)) | (refine TW.pl rfl rfl ?_)))
    refine TW.br rfl rfl (by first | omega | exact b2i_R _ | exact ⟨b2i_R _, by omega⟩) (fun h2 => ?_) (fun h2 => ?_)
    rotate_left
    · rw [if_pos h2]
      (repeat (first | (refine TW.getf rfl rfl rfl (fun _ => ?_)) | (refine TW.pl rfl rfl ?_)))
      refine TW.cv0 rfl rfl rfl (Nat.le_of_ble_eq_true rfl) (T_block hfs ⟨_, _, hg⟩ h2) ?_
      rintro _ υ hp
      obtain ⟨rfl, -⟩ := id hp
      (iterate 1 (first | (refine TW.getf rfl rfl rfl (fun _ => ?_)) | (refine TW.pl rfl rfl ?_)))
      refine fin71 _ _ _ _ (by assumption) (by assumption) ?_
      revert hp
      cases pBlock l1 <;> exact id
    rw [if_neg h2]
    have each29 : (hd l1 = 103 ∨ hd l1 = 71) → TW (d + 12) tc_order 29 [some (.inr 0), some (.inl (τ.1 27)), some (.inl (τ.1 30))] [] τ (PY fs σ0 s (rs (if hd l1.tail = 47 then match pPat 47 l1.tail.tail with
        | .inl f => .inl f
        | .inr (l2, _, pt) => if hd l2 = 47 then
            (if hd l2.tail = 123 then match pBlock l2.tail with
              | .inl f => .inl f
              | .inr (l3, os) => .inr (l3, (w.1, w.2.1, w.2.2, hd l1, 0, [], none, pt, [], [], false), os)
             else match pInner l2.tail with
              | .inl f => .inl f
              | .inr (l3, o) => .inr (l3, (w.1, w.2.1, w.2.2, hd l1, 0, [], none, pt, [], [], false), [o]))
          else .inl l2
       else .inl l1.tail : PR SOrd))) := by
      intro hc
      have hn : l1 ≠ [] := by rcases hc with z | z <;> exact hd_ne z (by decide)
      have hll := List.length_pos_iff.mpr hn
      have fin44 : ∀ (υ : TS) (f : List Int), PB fs σ0 s 4 f υ → TW (d + 12) tc_order 44 [some (.inr 0), some (.inl (τ.1 27)), some (.inl (τ.1 30))] [] υ (PY fs σ0 s (.inl f)) := by
        intro υ f hb
        have := hb.bad0
        (repeat (first | (refine TW.getf rfl rfl rfl (fun _ => ?_)) | (refine TW.pl rfl rfl ?_)))
        refine TW.br rfl rfl (by first | omega | exact b2i_R _ | exact ⟨b2i_R _, by omega⟩) (fun h1 => ?_) (fun h1 => ?_)
        · (repeat (first | (refine TW.getf rfl rfl rfl (fun _ => ?_)) | (refine TW.pl rfl rfl ?_)))
          refine TW.br rfl rfl (by first | omega | exact b2i_R _ | exact ⟨b2i_R _, by omega⟩) (fun h2 => ?_) (fun h2 => ?_)
          · exact fin71 _ _ _ _ (by assumption) (by assumption) (PY.bad hb (by decide) rfl)
          · omega
        · omega
      (repeat (first | (refine TW.getf rfl rfl rfl (fun _ => ?_)) | (refine TW.pl rfl rfl ?_)))
      refine TW.putf rfl rfl (by omega) ?_
      have hs := hg.step hn rfl
      (repeat (first | (refine TW.getf rfl rfl rfl (fun _ => ?_)) | (refine TW.pl rfl rfl ?_)))
      refine TW.cv1 rfl rfl rfl (Nat.le_of_ble_eq_true rfl) (T_take hs (by decide)) ?_
      rintro _ υ ⟨rfl, p1, p2⟩
      (repeat (first | (refine TW.getf rfl rfl rfl (fun _ => ?_)) | (refine TW.pl rfl rfl ?_)))
      by_cases h3 : hd l1.tail = 47
      · rw [if_pos h3]
        refine TW.cv1 rfl rfl rfl (Nat.le_of_ble_eq_true rfl) (T_pattern (by decide) (p1 h3)) ?_
        rintro _ υ1 ⟨rfl, hp⟩
        (repeat (first | (refine TW.getf rfl rfl rfl (fun _ => ?_)) | (refine TW.pl rfl rfl ?_)))
        revert hp
        cases pPat 47 l1.tail.tail with
        | inl f =>
          intro hp
          refine TW.cv1 rfl rfl rfl (Nat.le_of_ble_eq_true rfl) (T_takeB hp (by decide)) ?_
          rintro _ υ2 ⟨rfl, hb⟩
          exact fin44 _ _ hb
        | inr v =>
          obtain ⟨l2, c2, pt⟩ := v
          rintro ⟨sr, hp⟩
          dsimp only
          refine TW.cv1 rfl rfl rfl (Nat.le_of_ble_eq_true rfl) (T_take hp (by decide)) ?_
          rintro _ υ2 ⟨rfl, q1, q2⟩
          by_cases h4 : hd l2 = 47
          · rw [if_pos h4]
            have hq := (q1 h4).mono (m' := 4) (by decide)
            have hb2 := hq.2.2.1
            have hd2 := hq.hdR
            (repeat (first | (refine TW.getf rfl rfl rfl (fun _ => ?_)) | (refine TW.pl rfl rfl ?_)))
            refine TW.br rfl rfl (by first | omega | exact b2i_R _ | exact ⟨b2i_R _, by omega⟩) (fun h5 => ?_) (fun h5 => ?_)
            · omega
            (repeat (first | (refine TW.getf rfl rfl rfl (fun _ => ?_)) | (refine TW.pl rfl rfl ?_)))
            refine TW.cv0 rfl rfl rfl (Nat.le_of_ble_eq_true rfl) (T_c hq) ?_; rintro _ _ ⟨rfl, rfl⟩
            (repeat (first | (refine TW.getf rfl rfl rfl (fun _ => ?_)) | (refine TW.pl rfl rfl ?_)))
            refine TW.br rfl rfl (by first | omega | exact b2i_R _ | exact ⟨b2i_R _, by omega⟩) (fun h6 => ?_) (fun h6 => ?_)
            · rw [if_neg h6]
              (repeat (first | (refine TW.getf rfl rfl rfl (fun _ => ?_)) | (refine TW.pl rfl rfl ?_)))
              refine TW.br rfl rfl (by first | omega | exact b2i_R _ | exact ⟨b2i_R _, by omega⟩) (fun h7 => ?_) (fun h7 => ?_)
              · omega
              (repeat (first | (refine TW.getf rfl rfl rfl (fun _ => ?_)) | (refine TW.pl rfl rfl ?_)))
              refine TW.cv0 rfl rfl rfl (Nat.le_of_ble_eq_true rfl) (T_innerOrder hfs ⟨_, _, hq⟩) ?_
              rintro _ υ3 hp
              obtain ⟨rfl, -⟩ := id hp
              (iterate 1 (first | (refine TW.getf rfl rfl rfl (fun _ => ?_)) | (refine TW.pl rfl rfl ?_)))
              refine fin71 _ _ _ _ (by assumption) (by assumption) ?_
              revert hp
              cases pInner l2.tail <;> exact id
            · rw [if_pos h6]
              (repeat (first | (refine TW.getf rfl rfl rfl (fun _ => ?_)) | (refine TW.pl rfl rfl ?_)))
              refine TW.cv0 rfl rfl rfl (Nat.le_of_ble_eq_true rfl) (T_block hfs ⟨_, _, hq⟩ h6) ?_
              rintro _ υ3 hp
              obtain ⟨rfl, -⟩ := id hp
              (iterate 1 (first | (refine TW.getf rfl rfl rfl (fun _ => ?_)) | (refine TW.pl rfl rfl ?_)))
              refine fin71 _ _ _ _ (by assumption) (by assumption) ?_
              revert hp
              cases pBlock l2.tail <;> exact id
          · rw [if_neg h4]
            exact fin44 _ _ ((q2 h4).mono (by decide))
      · rw [if_neg h3]
        refine TW.cv1 rfl rfl rfl (Nat.le_of_ble_eq_true rfl) (T_patternB (by decide) (p2 h3)) ?_
        rintro _ υ1 ⟨rfl, hb⟩
        (repeat (first | (refine TW.getf rfl rfl rfl (fun _ => ?_)) | (refine TW.pl rfl rfl ?_)))
        refine TW.cv1 rfl rfl rfl (Nat.le_of_ble_eq_true rfl) (T_takeB hb (by decide)) ?_
        rintro _ υ2 ⟨rfl, hb⟩
        exact fin44 _ _ hb
    (repeat (first | (refine TW.getf rfl rfl rfl (fun _ => ?_)) | (refine TW.pl rfl rfl ?_)))
    refine TW.br rfl rfl (by first | omega | exact b2i_R _ | exact ⟨b2i_R _, by omega⟩) (fun h3 => ?_) (fun h3 => ?_)
    · omega
    (repeat (first | (refine TW.getf rfl rfl rfl (fun _ => ?_)) | (refine TW.pl rfl rfl ?_)))
    refine TW.cv0 rfl rfl rfl (Nat.le_of_ble_eq_true rfl) (T_c hg) ?_; rintro _ _ ⟨rfl, rfl⟩
    (repeat (first | (refine TW.getf rfl rfl rfl (fun _ => ?_)) | (refine TW.pl rfl rfl ?_)))
    refine TW.br rfl rfl (by first | omega | exact b2i_R _ | exact ⟨b2i_R _, by omega⟩) (fun h4 => ?_) (fun h4 => ?_)
    · rw [if_pos (Or.inl h4)]
      exact each29 (Or.inl h4)
    (repeat (first | (refine TW.getf rfl rfl rfl (fun _ => ?_)) | (refine TW.pl rfl rfl ?_)))
    refine TW.cv0 rfl rfl rfl (Nat.le_of_ble_eq_true rfl) (T_c hg) ?_; rintro _ _ ⟨rfl, rfl⟩
    (repeat (first | (refine TW.getf rfl rfl rfl (fun _ => ?_)) | (refine TW.pl rfl rfl ?_)))
    refine TW.br rfl rfl (by first | omega | exact b2i_R _ | exact ⟨b2i_R _, by omega⟩) (fun h5 => ?_) (fun h5 => ?_)
    rotate_left
    · rw [if_pos (Or.inr h5)]
      exact each29 (Or.inr h5)
    rw [if_neg (by omega)]
    (repeat (first | (refine TW.getf rfl rfl rfl (fun _ => ?_)) | (refine TW.pl rfl rfl ?_)))
    refine TW.br rfl rfl (by first | omega | exact b2i_R _ | exact ⟨b2i_R _, by omega⟩) (fun h6 => ?_) (fun h6 => ?_)
    · omega
    (repeat (first | (refine TW.getf rfl rfl rfl (fun _ => ?_)) | (refine TW.pl rfl rfl ?_)))
    refine TW.br rfl rfl (by first | omega | exact b2i_R _ | exact ⟨b2i_R _, by omega⟩) (fun h7 => ?_) (fun h7 => ?_)
    · (iterate 1 (first | (refine TW.getf rfl rfl rfl (fun _ => ?_)) | (refine TW.pl rfl rfl ?_)))
      refine TW.cv2 rfl rfl rfl (Nat.le_of_ble_eq_true rfl) (T_plainAct (inner := false) (hw := false) (w := w) (by constructor; intro z; cases z; intro z; have := wk_iff.mpr z; omega) ⟨_, _, hg⟩) ?_
      rintro _ υ hp
      obtain ⟨rfl, -⟩ := id hp
      refine fin71 _ _ _ _ (by assumption) (by assumption) ?_
      revert hp
      cases pAct false w l1 <;> exact id
    · (iterate 2 (first | (refine TW.getf rfl rfl rfl (fun _ => ?_)) | (refine TW.pl rfl rfl ?_)))
      refine TW.cv2 rfl rfl rfl (Nat.le_of_ble_eq_true rfl) (T_plainAct (inner := false) (hw := true) (w := w) (by constructor; intro z; exact wk_iff.mp (by omega); intro z; rfl) ⟨_, _, hg⟩) ?_
      rintro _ υ hp
      obtain ⟨rfl, -⟩ := id hp
      refine fin71 _ _ _ _ (by assumption) (by assumption) ?_
      revert hp
      cases pAct false w l1 <;> exact id
theorem PGx.start (hs : SgnIs σ s) (hg : GS σ) {v : Int} (hv : Sfx s l v) : PGx fW σ s l (ts1 (ts1 σ 23 v) 24 (-1)) := by
  refine ⟨((σ.1 25)).toNat, ((σ.1 26)).toNat, ⟨fun k h1 h2 => ?_, (TFr.rf.ts1 (by decide)).ts1 (by decide), ?_⟩, ?_, ts1_eq, ⟨?_, ?_⟩, ?_, ?_⟩
  · have : k = 23 ∨ k = 24 ∨ k = 25 ∨ k = 26 := by omega
    rcases this with z | z | z | z <;> (rw [z]; decide)
  · unfold SgnIs at hs ⊢
    rw [ts1_ne (by decide), ts1_ne (by decide)]
    exact hs
  · unfold At
    rw [ts1_ne (by decide), ts1_eq]
    exact hv
  · rw [ts1_ne (by decide), ts1_ne (by decide)]; have := hg.1; omega
  · have := hg.1; omega
  · rw [ts1_ne (by decide), ts1_ne (by decide)]; have := hg.2; omega
  · have := hg.2; omega
theorem fW_ok : ∀ k, 27 ≤ k → k ≤ 30 → k ∈ fW := by
  intro k h1 h2
  have : k = 27 ∨ k = 28 ∨ k = 29 ∨ k = 30 := by omega
  rcases this with z | z | z | z <;> (rw [z]; decide)
theorem PGx.out (h : PGx fs σ0 s l σ) : TFr fs [] σ0 σ ∧ SgnIs σ s ∧ GS σ ∧ Sfx s l (σ.1 23) ∧ (σ.1 24) = -1 := by
  obtain ⟨g, t, h⟩ := h
  refine ⟨h.1.2.1, h.1.2.2, ⟨?_, ?_⟩, h.2.1, h.2.2.1⟩
  · have := h.2.2.2.1; omega
  · have := h.2.2.2.2; omega
theorem Sfx.all : Sfx s s 0 := ⟨0, rfl, Nat.zero_le _, rfl⟩
def sFault {α : Type} : Nat ⊕ α → Int
  | .inl k => k
  | .inr _ => -1
theorem T_ordersFault (hs : SgnIs σ s) (hg : GS σ) : TM (d + 14) tk_ordersFault [.inr 0] σ (fun r τ => r = some (sFault (sOrders s)) ∧ TFr fW [] σ τ ∧ SgnIs τ s ∧ GS τ) := by
  refine TM.of rfl rfl ?_
  (repeat (first | (refine TW.getf rfl rfl rfl (fun _ => ?_)) | (refine TW.pl rfl rfl ?_)))
  refine TW.putf rfl rfl (by omega) ?_
  (repeat (first | (refine TW.getf rfl rfl rfl (fun _ => ?_)) | (refine TW.pl rfl rfl ?_)))
  refine TW.putf rfl rfl (by omega) ?_
  have h0 := PGx.start hs hg Sfx.all
  have endB : ∀ (υ : TS) (f : List Int), PB fW σ s 4 f υ → TW (d + 13) tc_ordersFault 8 [some (.inr 0)] [] υ (fun r τ => r = some ((s.length - f.length : Nat) : Int) ∧ TFr fW [] σ τ ∧ SgnIs τ s ∧ GS τ) := by
    intro υ f hb
    have := hb.bad0
    (repeat (first | (refine TW.getf rfl rfl rfl (fun _ => ?_)) | (refine TW.pl rfl rfl ?_)))
    refine TW.br rfl rfl (by first | omega | exact b2i_R _ | exact ⟨b2i_R _, by omega⟩) (fun h1 => ?_) (fun h1 => ?_)
    · (repeat (first | (refine TW.getf rfl rfl rfl (fun _ => ?_)) | (refine TW.pl rfl rfl ?_)))
      refine TW.br rfl rfl (by first | omega | exact b2i_R _ | exact ⟨b2i_R _, by omega⟩) (fun h2 => ?_) (fun h2 => ?_)
      · (repeat (first | (refine TW.getf rfl rfl rfl (fun _ => ?_)) | (refine TW.pl rfl rfl ?_)))
        exact TW.iret rfl ⟨by rw [hb.2.2.1], hb.1.2.1, hb.1.2.2, hb.2.2.2⟩
      · omega
    · omega
  have endG : ∀ (υ : TS) (q : List Int), PGx fW σ s q υ → TW (d + 13) tc_ordersFault 24 [some (.inr 0)] [] υ (fun r τ => r = some (if q = [] then -1 else ((s.length - q.length : Nat) : Int)) ∧ TFr fW [] σ τ ∧ SgnIs τ s ∧ GS τ) := by
    intro υ q hq
    obtain ⟨g, t, hq⟩ := hq
    have hb := hq.2.2.1
    have hdr := hq.hdR
    (repeat (first | (refine TW.getf rfl rfl rfl (fun _ => ?_)) | (refine TW.pl rfl rfl ?_)))
    refine TW.br rfl rfl (by first | omega | exact b2i_R _ | exact ⟨b2i_R _, by omega⟩) (fun h2 => ?_) (fun h2 => ?_)
    · omega
    (repeat (first | (refine TW.getf rfl rfl rfl (fun _ => ?_)) | (refine TW.pl rfl rfl ?_)))
    refine TW.br rfl rfl (by first | omega | exact b2i_R _ | exact ⟨b2i_R _, by omega⟩) (fun h3 => ?_) (fun h3 => ?_)
    · (repeat (first | (refine TW.getf rfl rfl rfl (fun _ => ?_)) | (refine TW.pl rfl rfl ?_)))
      refine TW.iret rfl ⟨?_, (PGx.out ⟨g, t, hq⟩).1, hq.1.2.2, (PGx.out ⟨g, t, hq⟩).2.2.1⟩
      rw [if_pos (List.length_eq_zero_iff.mp (by omega)), hb]
    · (repeat (first | (refine TW.getf rfl rfl rfl (fun _ => ?_)) | (refine TW.pl rfl rfl ?_)))
      refine TW.cv0 rfl rfl rfl (Nat.le_of_ble_eq_true rfl) (T_failG hq) ?_
      rintro _ τ ⟨rfl, hb⟩
      (repeat (first | (refine TW.getf rfl rfl rfl (fun _ => ?_)) | (refine TW.pl rfl rfl ?_)))
      refine TW.iret rfl ⟨?_, hb.1.2.1, hb.1.2.2, hb.2.2.2⟩
      rw [if_neg (fun z => by rw [z] at hdr; simp at hdr; omega), hb.2.2.1]
  have loop : ∀ (k : Nat) (q : List Int) (υ : TS), q.length ≤ k → PGx fW σ s q υ → TW (d + 13) tc_ordersFault 8 [some (.inr 0)] [] υ (fun r τ => r = some (match pOrE k q with | .inl f => ((s.length - f.length : Nat) : Int) | .inr (l1, _) => if l1 = [] then -1 else ((s.length - l1.length : Nat) : Int)) ∧ TFr fW [] σ τ ∧ SgnIs τ s ∧ GS τ) := by
    intro k
    induction k with
    | zero =>
      intro q υ hk hq
      obtain ⟨g1, s1, hq⟩ := hq
      have hb := hq.2.2.1
      have hdr := hq.hdR
      have hq0 : q = [] := List.length_eq_zero_iff.mp (by omega)
      subst hq0
      (repeat (first | (refine TW.getf rfl rfl rfl (fun _ => ?_)) | (refine TW.pl rfl rfl ?_)))
      refine TW.br rfl rfl (by first | omega | exact b2i_R _ | exact ⟨b2i_R _, by omega⟩) (fun h1 => ?_) (fun h1 => ?_)
      · omega
      (repeat (first | (refine TW.getf rfl rfl rfl (fun _ => ?_)) | (refine TW.pl rfl rfl ?_)))
      refine TW.cv0 rfl rfl rfl (Nat.le_of_ble_eq_true rfl) (T_c hq) ?_; rintro _ _ ⟨rfl, rfl⟩
      (repeat (first | (refine TW.getf rfl rfl rfl (fun _ => ?_)) | (refine TW.pl rfl rfl ?_)))
      refine TW.br rfl rfl (by first | omega | exact b2i_R _ | exact ⟨b2i_R _, by omega⟩) (fun h2 => ?_) (fun h2 => ?_)
      · exact endG _ _ ⟨_, _, hq⟩
      · exact absurd h2 (by decide)
    | succ k ih =>
      intro q υ hk hq
      obtain ⟨g1, s1, hq⟩ := hq
      have hb := hq.2.2.1
      have hdr := hq.hdR
      unfold pOrE
      (repeat (first | (refine TW.getf rfl rfl rfl (fun _ => ?_)) | (refine TW.pl rfl rfl ?_)))
      refine TW.br rfl rfl (by first | omega | exact b2i_R _ | exact ⟨b2i_R _, by omega⟩) (fun h1 => ?_) (fun h1 => ?_)
      · omega
      (repeat (first | (refine TW.getf rfl rfl rfl (fun _ => ?_)) | (refine TW.pl rfl rfl ?_)))
      refine TW.cv0 rfl rfl rfl (Nat.le_of_ble_eq_true rfl) (T_c hq) ?_; rintro _ _ ⟨rfl, rfl⟩
      (repeat (first | (refine TW.getf rfl rfl rfl (fun _ => ?_)) | (refine TW.pl rfl rfl ?_)))
      refine TW.br rfl rfl (by first | omega | exact b2i_R _ | exact ⟨b2i_R _, by omega⟩) (fun h2 => ?_) (fun h2 => ?_)
      · rw [if_neg h2]
        exact endG _ _ ⟨_, _, hq⟩
      · rw [if_pos h2]
        have hn : q ≠ [] := hd_ne h2 (by decide)
        have hll := List.length_pos_iff.mpr hn
        dsimp only
        rw [pOrders_E]
        (repeat (first | (refine TW.getf rfl rfl rfl (fun _ => ?_)) | (refine TW.pl rfl rfl ?_)))
        refine TW.putf rfl rfl (by omega) ?_
        (repeat (first | (refine TW.getf rfl rfl rfl (fun _ => ?_)) | (refine TW.pl rfl rfl ?_)))
        refine TW.cv0 rfl rfl rfl (Nat.le_of_ble_eq_true rfl) (T_order fW_ok ⟨_, _, hq.step hn rfl⟩) ?_
        rintro _ υ1 ⟨rfl, hp⟩
        (iterate 1 (first | (refine TW.getf rfl rfl rfl (fun _ => ?_)) | (refine TW.pl rfl rfl ?_)))
        revert hp
        cases hi : pOrder q.tail with
        | inl f => exact fun hp => endB _ _ hp
        | inr v =>
          have := pOrder_shr _ _ hi
          exact fun hp => ih v.1 υ1 (by simp at this; omega) hp
  (repeat (first | (refine TW.getf rfl rfl rfl (fun _ => ?_)) | (refine TW.pl rfl rfl ?_)))
  refine TW.cv0 rfl rfl rfl (Nat.le_of_ble_eq_true rfl) (T_order fW_ok h0) ?_
  rintro _ υ ⟨rfl, hp⟩
  have e : sFault (sOrders s) = match rs (pOrders s.length s) with | .inl f => ((s.length - f.length : Nat) : Int) | .inr (l1, _) => if l1 = [] then -1 else ((s.length - l1.length : Nat) : Int) := by
    unfold sOrders
    cases pOrders s.length s with
    | inl f => rfl
    | inr v => dsimp only [rs]; split <;> rfl
  rw [e, pOrders_E]
  revert hp
  cases hi : pOrder s with
  | inl f => exact fun hp => endB _ _ hp
  | inr v => exact fun hp => loop _ v.1 υ (pOrder_shr _ _ hi) hp
theorem T_patternsFault (hs : SgnIs σ s) (hg : GS σ) : TM (d + 8) tk_patternsFault [.inr 0] σ (fun r τ => r = some (sFault (sPattern s)) ∧ TFr fW [] σ τ ∧ SgnIs τ s ∧ GS τ) := by
  refine TM.of rfl rfl ?_
  (repeat (first | (refine TW.getf rfl rfl rfl (fun _ => ?_)) | (refine TW.pl rfl rfl ?_)))
  refine TW.putf rfl rfl (by omega) ?_
  (repeat (first | (refine TW.getf rfl rfl rfl (fun _ => ?_)) | (refine TW.pl rfl rfl ?_)))
  refine TW.putf rfl rfl (by omega) ?_
  obtain ⟨g0, t0, h0⟩ := PGx.start hs hg Sfx.all
  (repeat (first | (refine TW.getf rfl rfl rfl (fun _ => ?_)) | (refine TW.pl rfl rfl ?_)))
  refine TW.cv1 rfl rfl rfl (Nat.le_of_ble_eq_true rfl) (T_pattern (by decide) h0) ?_
  rintro _ τ ⟨rfl, hp⟩
  unfold sPattern
  revert hp
  cases pPat 0 s with
  | inl f =>
    intro hp
    have hb : PB fW σ s 4 f τ := hp
    have := hb.bad0
    (repeat (first | (refine TW.getf rfl rfl rfl (fun _ => ?_)) | (refine TW.pl rfl rfl ?_)))
    refine TW.br rfl rfl (by first | omega | exact b2i_R _ | exact ⟨b2i_R _, by omega⟩) (fun h1 => ?_) (fun h1 => ?_)
    · (repeat (first | (refine TW.getf rfl rfl rfl (fun _ => ?_)) | (refine TW.pl rfl rfl ?_)))
      exact TW.iret rfl ⟨by rw [hb.2.2.1]; rfl, hb.1.2.1, hb.1.2.2, hb.2.2.2⟩
    · omega
  | inr v =>
    obtain ⟨q, c, pt⟩ := v
    rintro ⟨sr, hq⟩
    have hq := hq.mono (m' := 4) (by decide)
    have hb := hq.2.2.1
    have hdr := hq.hdR
    dsimp only
    (repeat (first | (refine TW.getf rfl rfl rfl (fun _ => ?_)) | (refine TW.pl rfl rfl ?_)))
    refine TW.br rfl rfl (by first | omega | exact b2i_R _ | exact ⟨b2i_R _, by omega⟩) (fun h2 => ?_) (fun h2 => ?_)
    · omega
    (repeat (first | (refine TW.getf rfl rfl rfl (fun _ => ?_)) | (refine TW.pl rfl rfl ?_)))
    refine TW.br rfl rfl (by first | omega | exact b2i_R _ | exact ⟨b2i_R _, by omega⟩) (fun h3 => ?_) (fun h3 => ?_)
    · (repeat (first | (refine TW.getf rfl rfl rfl (fun _ => ?_)) | (refine TW.pl rfl rfl ?_)))
      refine TW.iret rfl ⟨?_, (PGx.out ⟨_, _, hq⟩).1, hq.1.2.2, (PGx.out ⟨_, _, hq⟩).2.2.1⟩
      rw [if_pos (List.length_eq_zero_iff.mp (by omega)), hb]; rfl
    · (repeat (first | (refine TW.getf rfl rfl rfl (fun _ => ?_)) | (refine TW.pl rfl rfl ?_)))
      refine TW.cv0 rfl rfl rfl (Nat.le_of_ble_eq_true rfl) (T_failG hq) ?_
      rintro _ τ ⟨rfl, hb⟩
      (repeat (first | (refine TW.getf rfl rfl rfl (fun _ => ?_)) | (refine TW.pl rfl rfl ?_)))
      refine TW.iret rfl ⟨?_, hb.1.2.1, hb.1.2.2, hb.2.2.2⟩
      rw [if_neg (fun z => by rw [z] at hdr; simp at hdr; omega), hb.2.2.1]; rfl
/-- what reading leaves -/
def RdO (σ : TS) (s : List Int) (τ : TS) : Prop := TFr fW [] σ τ ∧ SgnIs τ s ∧ GS τ
theorem Sfx.R (h : Sfx s l m) : 0 ≤ m ∧ m ≤ s.length := by obtain ⟨k, h1, h2, h3⟩ := h; omega
theorem T_endI {x : Int} {l1 : List Int} {o : SOrd0} (hs : SgnIs σ s) (hg : GS σ) (hx : Sfx s l x) (h : pInner l = .inr (l1, o)) : TM (d + 14) tk_endOf [.inr 0, .inl x, .inl 1] σ (fun r τ => (∃ y, r = some y ∧ Sfx s l1 y) ∧ RdO σ s τ) := by
  have hxR := hx.R
  have h60 := hs.2.1
  refine TM.of rfl rfl ?_
  (repeat (first | (refine TW.getf rfl rfl rfl (fun _ => ?_)) | (refine TW.pl rfl rfl ?_)))
  refine TW.putf rfl rfl (by omega) ?_
  (repeat (first | (refine TW.getf rfl rfl rfl (fun _ => ?_)) | (refine TW.pl rfl rfl ?_)))
  refine TW.putf rfl rfl (by omega) ?_
  have h0 := PGx.start hs hg hx
  (repeat (first | (refine TW.getf rfl rfl rfl (fun _ => ?_)) | (refine TW.pl rfl rfl ?_)))
  refine TW.br rfl rfl (by first | omega | exact b2i_R _ | exact ⟨b2i_R _, by omega⟩) (fun h1 => ?_) (fun h1 => ?_)
  · omega
  (repeat (first | (refine TW.getf rfl rfl rfl (fun _ => ?_)) | (refine TW.pl rfl rfl ?_)))
  refine TW.cv0 rfl rfl rfl (Nat.le_of_ble_eq_true rfl) (T_innerOrder fW_ok h0) ?_
  rintro _ τ ⟨rfl, hp⟩
  rw [h] at hp
  have ho := PGx.out hp
  (repeat (first | (refine TW.getf rfl rfl rfl (fun _ => ?_)) | (refine TW.pl rfl rfl ?_)))
  exact TW.iret rfl ⟨⟨_, rfl, ho.2.2.2.1⟩, ho.1, ho.2.1, ho.2.2.1⟩
theorem T_endO {x : Int} {l1 : List Int} {o : SOrd} (hs : SgnIs σ s) (hg : GS σ) (hx : Sfx s l x) (h : pOrder l = .inr (l1, o)) : TM (d + 14) tk_endOf [.inr 0, .inl x, .inl 0] σ (fun r τ => (∃ y, r = some y ∧ Sfx s l1 y) ∧ RdO σ s τ) := by
  have hxR := hx.R
  have h60 := hs.2.1
  refine TM.of rfl rfl ?_
  (repeat (first | (refine TW.getf rfl rfl rfl (fun _ => ?_)) | (refine TW.pl rfl rfl ?_)))
  refine TW.putf rfl rfl (by omega) ?_
  (repeat (first | (refine TW.getf rfl rfl rfl (fun _ => ?_)) | (refine TW.pl rfl rfl ?_)))
  refine TW.putf rfl rfl (by omega) ?_
  have h0 := PGx.start hs hg hx
  (repeat (first | (refine TW.getf rfl rfl rfl (fun _ => ?_)) | (refine TW.pl rfl rfl ?_)))
  refine TW.br rfl rfl (by first | omega | exact b2i_R _ | exact ⟨b2i_R _, by omega⟩) (fun h1 => ?_) (fun h1 => ?_)
  · (repeat (first | (refine TW.getf rfl rfl rfl (fun _ => ?_)) | (refine TW.pl rfl rfl ?_)))
    refine TW.cv0 rfl rfl rfl (Nat.le_of_ble_eq_true rfl) (T_order fW_ok h0) ?_
    rintro _ τ ⟨rfl, hp⟩
    rw [h] at hp
    have ho := PGx.out hp
    (repeat (first | (refine TW.getf rfl rfl rfl (fun _ => ?_)) | (refine TW.pl rfl rfl ?_)))
    exact TW.iret rfl ⟨⟨_, rfl, ho.2.2.2.1⟩, ho.1, ho.2.1, ho.2.2.1⟩
  · omega
theorem T_readWhere {x : Int} {l1 : List Int} {w : Bool × Option SAdr × Option SAdr} (hs : SgnIs σ s) (hg : GS σ) (hx : Sfx s l x) (h : pWhere l = .inr (l1, w)) : TM (d + 11) tk_readWhere [.inr 0, .inl x] σ (fun r τ => r = none ∧ RdO σ s τ ∧ WhK s l w l1 τ) := by
  have hxR := hx.R
  have h60 := hs.2.1
  refine TM.of rfl rfl ?_
  (repeat (first | (refine TW.getf rfl rfl rfl (fun _ => ?_)) | (refine TW.pl rfl rfl ?_)))
  refine TW.putf rfl rfl (by omega) ?_
  (repeat (first | (refine TW.getf rfl rfl rfl (fun _ => ?_)) | (refine TW.pl rfl rfl ?_)))
  refine TW.putf rfl rfl (by omega) ?_
  have h0 := PGx.start hs hg hx
  (repeat (first | (refine TW.getf rfl rfl rfl (fun _ => ?_)) | (refine TW.pl rfl rfl ?_)))
  refine TW.cv0 rfl rfl rfl (Nat.le_of_ble_eq_true rfl) (T_where fW_ok h0) ?_
  rintro _ τ ⟨rfl, hp⟩
  rw [h] at hp
  obtain ⟨hp, hw⟩ := hp
  have ho := PGx.out hp
  exact TW.vret rfl ⟨rfl, ⟨ho.1, ho.2.1, ho.2.2.1⟩, hw⟩
end TO
