-- C
set_option maxRecDepth 100000
/-! THE READER: an order up to its act -/
section OH
variable {d i a n q x b m c0 c1 : Nat} {b1 kd c iv : Int} {M : GMeth} {ls : GL} {st : List GV} {s l l1 l3 f acc : List Int} {S S0 S1 S' : BS} {F F' W : Nat → Prop} {Q : GO → BS → Prop} {y : Option Nat} {o : Obj} {r : Option Nat} {pt : SPat} {LL : List Nat} {w : Bool × Option SAdr × Option SAdr} {inner : Bool}
theorem sidx_mem (c : Int) : ∀ (s : List Int) (k : Int), 0 ≤ k → (0 ≤ sidx c s k ↔ c ∈ s) := by
  intro s
  induction s with
  | nil => intro k _; exact ⟨fun z => absurd (show (0 : Int) ≤ -1 from z) (by decide), fun z => by cases z⟩
  | cons x s ih =>
    intro k hk
    show (0 ≤ (if x = c then k else sidx c s (k + 1))) ↔ c ∈ x :: s
    by_cases z : x = c
    · rw [if_pos z]; exact ⟨fun _ => by rw [z]; exact List.mem_cons_self, fun _ => hk⟩
    · rw [if_neg z]
      refine (ih (k + 1) (by omega)).trans ⟨fun w => List.mem_cons_of_mem _ w, fun w => ?_⟩
      rcases List.mem_cons.mp w with w | w
      · exact absurd w.symm z
      · exact w
theorem pAct_no (h : l = [] ∨ ¬ isAcN (hd l) ∨ (isOut (hd l) = true ∧ inner = true) ∨ (hd l = 58 ∧ (w.1 = true ∨ w.2.1 ≠ none))) : pAct inner w l = .inl l := by
  unfold pAct
  dsimp only
  by_cases z : l = [] ∨ (isOut (hd l) = true ∧ inner = true) ∨ (hd l = 58 ∧ (w.1 = true ∨ w.2.1 ≠ none))
  · rw [if_pos z]
  · rw [if_neg z]
    have hn : ¬ isAcN (hd l) := by
      rcases h with h | h | h | h
      · exact absurd (Or.inl h) z
      · exact h
      · exact absurd (Or.inr (Or.inl h)) z
      · exact absurd (Or.inr (Or.inr h)) z
    unfold isAcN at hn
    rw [if_neg (by omega), if_neg (by omega), if_neg (by omega), if_neg (by omega), if_neg (by omega), if_neg (by omega), if_neg (by omega), if_neg (by omega), if_neg (by omega)]
    refine if_neg (fun y => ?_)
    unfold isBar at y
    simp at y
    omega
theorem pAct_ok (h0 : l ≠ []) (h : isAcN (hd l)) (h1 : ¬ (isOut (hd l) = true ∧ inner = true)) (h2 : ¬ (hd l = 58 ∧ (w.1 = true ∨ w.2.1 ≠ none))) : pAct inner w l = match bhR (hd l) l.tail with
    | .inl f => .inl f
    | .inr (l1, v) => .inr (l1, w.1, w.2.1, w.2.2, hd l, v) := by
  unfold pAct bhR
  dsimp only
  rw [if_neg (fun z => z.elim h0 (fun z => z.elim h1 h2))]
  unfold isAcN at h
  clear h0 h1 h2
  have lab : ∀ (x y : Int) (r : List Int), 1 ≤ x → leR x y r = if decide (x ≤ hd r ∧ hd r ≤ y) = true then .inr (r.tail, hd r - x) else .inl r := fun x y r hx => by
    unfold leR
    by_cases z : x ≤ hd r ∧ hd r ≤ y
    · rw [if_pos ⟨z.1, z.2, fun w => by rw [w] at z; have : x ≤ (0 : Int) := z.1; omega⟩, if_pos (decide_eq_true z)]
    · rw [if_neg (fun w => z ⟨w.1, w.2.1⟩), if_neg (fun w => z (of_decide_eq_true w))]
  have dec2 : ∀ (x y v : Int) , (decide (x ≤ v ∧ v ≤ y) = true) ↔ (x ≤ v ∧ v ≤ y) := fun x y v => decide_eq_true_iff
  rw [lab 97 101 _ (by decide), lab 48 51 _ (by decide), lab 65 90 _ (by decide)]
  generalize l.tail = r
  generalize hd l = c at h ⊢
  rcases h with h | h | h | h | h | h | h | h | h | h
  · rcases h with rfl | rfl | rfl <;> (cases pRows r.length r <;> rfl)
  · rcases h with rfl | rfl | rfl | rfl | rfl <;> (cases pNum r <;> rfl)
  · rcases h with rfl | rfl <;> (cases pAdr r <;> rfl)
  · subst h
    by_cases z : decide (97 ≤ hd r ∧ hd r ≤ 101) = true
    · show (if decide (97 ≤ hd r ∧ hd r ≤ 101) = true then _ else _) = _
      rw [if_pos z, if_pos z]; rfl
    · show (if decide (97 ≤ hd r ∧ hd r ≤ 101) = true then _ else _) = _
      rw [if_neg z, if_neg z]; rfl
  · have z0 : ∀ (X Y : PR SOrd0), (if 48 ≤ hd r ∧ hd r ≤ 51 then X else Y) = if decide (48 ≤ hd r ∧ hd r ≤ 51) = true then X else Y := fun X Y => by
      by_cases z : 48 ≤ hd r ∧ hd r ≤ 51
      · rw [if_pos z, if_pos (decide_eq_true z)]
      · rw [if_neg z, if_neg (fun w => z (of_decide_eq_true w))]
    rw [z0]
    rcases h with rfl | rfl
    all_goals
      by_cases z : decide (48 ≤ hd r ∧ hd r ≤ 51) = true
      · rw [if_pos z, if_pos z]; rfl
      · rw [if_neg z, if_neg z]; rfl
  · subst h
    by_cases z : decide (65 ≤ hd r ∧ hd r ≤ 90) = true
    · show (if decide (65 ≤ hd r ∧ hd r ≤ 90) = true then _ else _) = _
      rw [if_pos z, if_pos z]; rfl
    · show (if decide (65 ≤ hd r ∧ hd r ≤ 90) = true then _ else _) = _
      rw [if_neg z, if_neg z]; rfl
  · rcases h with rfl | rfl
    all_goals
      cases hz : isLab (hd r) <;> rfl
  · subst h
    cases pRepl r <;> rfl
  · subst h
    cases pTurn r <;> rfl
  · rcases h with rfl | rfl | rfl | rfl | rfl | rfl | rfl | rfl | rfl | rfl | rfl | rfl <;> rfl
theorem C_hasWhere (hm : Ob S m (oOwn 7)) (h45 : Fi S 45 m (b2i w.1)) (h46 : Fe S 46 m r) (hr : AdO S F r w.2.1) : BE (d + 1) gk_X4_hasWhere [aR m] S (vI (if w.1 = true ∨ w.2.1 ≠ none then 1 else 0)) := by
  obtain ⟨w1, w2, w3⟩ := w
  have hb : b2i w1 = 0 ∨ b2i w1 = 1 := by unfold b2i; split <;> simp
  refine BM.of rfl rfl rfl ?_
  cases w1 with
  | true =>
    have h45 : Fi S 45 m 1 := h45
    (repeat (first | (refine BW.pl rfl rfl ?_) | (refine CW.geti rfl rfl (by assumption) rfl rfl (by assumption) (fun _ => ?_)) | (refine CW.getr rfl rfl (by assumption) rfl rfl (by assumption) ?_)))
    refine BW.br rfl rfl (by first | omega | decide | (constructor <;> first | omega | decide)) (fun z => ?_) (fun z => by first | (exfalso; omega) | exact absurd z (by decide))
    (repeat (refine BW.pl rfl rfl ?_))
    exact BW.irx rfl (Or.inr (Or.inl ⟨rfl, Or.inr rfl⟩)) ⟨_, rfl, by rw [if_pos (Or.inl rfl)], rfl⟩
  | false =>
    have h45 : Fi S 45 m 0 := h45
    (repeat (first | (refine BW.pl rfl rfl ?_) | (refine CW.geti rfl rfl (by assumption) rfl rfl (by assumption) (fun _ => ?_)) | (refine CW.getr rfl rfl (by assumption) rfl rfl (by assumption) ?_)))
    refine BW.br rfl rfl (by first | omega | decide | (constructor <;> first | omega | decide)) (fun z => by first | (exfalso; omega) | exact absurd z (by decide)) (fun z => ?_)
    (repeat (first | (refine BW.pl rfl rfl ?_) | (refine CW.geti rfl rfl (by assumption) rfl rfl (by assumption) (fun _ => ?_)) | (refine CW.getr rfl rfl (by assumption) rfl rfl (by assumption) ?_)))
    cases w2 with
    | none =>
      have hr : r = none := hr
      subst hr
      refine CW.nul rfl rfl (fun n z => by cases z) ?_
      (repeat (refine BW.pl rfl rfl ?_))
      exact BW.irx rfl (Or.inr (Or.inl ⟨rfl, Or.inl rfl⟩)) ⟨_, rfl, by rw [if_neg (fun z => by rcases z with z | z; cases z; exact z rfl)], rfl⟩
    | some v =>
      obtain ⟨a, rfl, ha⟩ := hr
      refine CW.nul rfl rfl (fun n z => by cases z; rw [show S.1 a = oOwn 2 from ha.2.1]; rfl) ?_
      (repeat (refine BW.pl rfl rfl ?_))
      exact BW.irx rfl (Or.inr (Or.inl ⟨rfl, Or.inr rfl⟩)) ⟨_, rfl, by rw [if_pos (Or.inr (fun z => by cases z))], rfl⟩
theorem orWhere (h : RdAt S n s l) (hm : Ob S m (oOwn 7)) (h45 : Fi S 45 m 0) (h46 : Fe S 46 m none) (h47 : Fe S 47 m none) (h32 : ∀ x ∈ s, 32 ≤ x) (hl : l.length ≤ 70) (hT : S.2.2.2 < 500000000)
    (k : ∀ l1 w S' c', pWhere l = .inr (l1, w) → l1.length ≤ l.length → RdAt S' n s l1 → Ob S' m (oOwn 7) → Fi S' 45 m (b2i w.1) → (∃ r, Fe S' 46 m r ∧ AdO S' (Nu S) r w.2.1) → (∃ r, Fe S' 47 m r ∧ AdO S' (Nu S) r w.2.2) → FlK S S' m [45, 46, 47] → Fr S S' (fun k => k = n ∨ k = m) c' → c' ≤ 600 * (l.length - l1.length) + 800 → BW (d + 14) gm_X3_order 29 [some (aR n), some (aI iv), some (aR m), none] [] S' Q)
    (kx : ∀ f S1 r S' c', pWhere l = .inl f → Fr S S1 (fun k => k = n ∨ k = m) c' → c' ≤ 600 * l.length + 20800 → Thr9 5 42 ((s.length : Int) - f.length) S1 r S' → Q r S') : BW (d + 14) gm_X3_order 4 [some (aR n), some (aI iv), some (aR m), none] [] S Q := by
  have hn := h.ob
  have hK := FlK.rf (S := S) (m := m) (LL := [45, 46, 47])
  have hA := Fr.rf (S := S) (W := fun k => k = n ∨ k = m)
  have hGn : ¬ Nu S n := Nu.not hn (oNe rfl)
  have hGm : ¬ Nu S m := Nu.not hm (oNe rfl)
  (repeat (refine BW.pl rfl rfl ?_))
  refine CW.c2 rfl rfl (by first | exact Or.inl rfl | exact Or.inr (tagO (by assumption) (by rfl) (by rfl))) (by first | exact Or.inl (by decide) | exact Or.inr ⟨_, rfl, by assumption⟩) rfl (C_passes (d := d + 8) h ⟨by decide, by decide⟩) ?_
  rintro r S1 ⟨hh1, hP1⟩
  replace hK := hK.fr hP1.fr ⟨hm.old (oNe rfl), Sep.ne (hm.ne hn (ownNe rfl))⟩
  replace h45 := h45.pu hP1 (Or.inl (Nat.ne_of_beq_eq_false rfl))
  replace h46 := h46.pu hP1 (Or.inl (Nat.ne_of_beq_eq_false rfl))
  replace h47 := h47.pu hP1 (Or.inl (Nat.ne_of_beq_eq_false rfl))
  replace hn := hn.pu hP1 trivial
  replace hm := hm.pu hP1 trivial
  replace hA := hA.f1 hP1.fr (fun _ => Or.inl rfl)
  rcases hh1 with ⟨z, rfl, h1⟩ | ⟨z, rfl, h1⟩
  · skip
    refine BW.br rfl rfl (by first | omega | decide | (constructor <;> first | omega | decide)) (fun w => by first | (exfalso; omega) | exact absurd w (by decide)) (fun w => ?_)
    (repeat (refine BW.pl rfl rfl ?_))
    first | (refine CW.putr rfl rfl (by assumption) rfl (by decide) (fun S2 hP2 h45 => ?_)) | (refine CW.puti rfl (by assumption) rfl (by decide) (by first | exact Or.inl ⟨rfl, by first | omega | decide | (constructor <;> first | omega | decide)⟩ | exact Or.inr (Or.inl ⟨rfl, by first | omega | decide | (constructor <;> first | omega | decide)⟩) | exact Or.inr (Or.inr (Or.inl ⟨rfl, by first | omega | decide | (constructor <;> first | omega | decide)⟩)) | exact Or.inr (Or.inr (Or.inr ⟨rfl, by first | omega | decide | (constructor <;> first | omega | decide)⟩))) (fun S2 hP2 h45 => ?_))
    replace hK := hK.put hP2 (by decide)
    replace h46 := h46.pu hP2 (Or.inl (Nat.ne_of_beq_eq_false rfl))
    replace h47 := h47.pu hP2 (Or.inl (Nat.ne_of_beq_eq_false rfl))
    replace h1 := h1.pu hP2 (Or.inl ⟨Nat.ne_of_beq_eq_false rfl, Nat.ne_of_beq_eq_false rfl⟩)
    replace hn := hn.pu hP2 trivial
    replace hm := hm.pu hP2 trivial
    replace hA := hA.f1 hP2.fr (fun _ => Or.inr rfl)
    (iterate 1 (refine BW.pl rfl rfl ?_))
    have e : pWhere l = .inr (l.tail, true, none, none) := by unfold pWhere; rw [if_pos z]
    exact k l.tail _ S2 _ e (by rw [List.length_tail]; omega) h1 hm h45 ⟨none, h46, rfl⟩ ⟨none, h47, rfl⟩ hK hA (by omega)
  · skip
    refine BW.br rfl rfl (by first | omega | decide | (constructor <;> first | omega | decide)) (fun w => ?_) (fun w => by first | (exfalso; omega) | exact absurd w (by decide))
    (repeat (refine BW.pl rfl rfl ?_))
    refine CW.e1 rfl rfl (by first | exact Or.inl rfl | exact Or.inr (tagO (by assumption) (by rfl) (by rfl))) (by first | exact Or.inl (by decide) | exact Or.inr ⟨_, rfl, by assumption⟩) rfl (C_isAddress (d := d + 7) h1) ?_
    by_cases z2 : isSpot (hd l) = true
    · rw [if_pos z2]
      have e0 : pWhere l = match pAdr l with
        | .inl f => .inl f
        | .inr (l1, a) => if hd l1 = 44 then match pAdr l1.tail with
            | .inl f => .inl f
            | .inr (l2, b) => .inr (l2, false, some a, some b)
          else .inr (l1, false, some a, none) := by
        unfold pWhere; rw [if_neg z, if_pos z2]
        cases pAdr l with
        | inl f => rfl
        | inr y => rfl
      refine BW.br rfl rfl (by first | omega | decide | (constructor <;> first | omega | decide)) (fun w2 => by first | (exfalso; omega) | exact absurd w2 (by decide)) (fun w2 => ?_)
      have hAu := hA.t
      (repeat (refine BW.pl rfl rfl ?_))
      refine CW.r1 rfl rfl (by first | exact Or.inl rfl | exact Or.inr (tagO (by assumption) (by rfl) (by rfl))) (by first | exact Or.inl (by decide) | exact Or.inr ⟨_, rfl, by assumption⟩) rfl rfl (C_address (d := d + 1) h1 h32 (by omega) (by omega)) ?_ ?_
      · rintro l2 v2 w3 S2 ⟨e1, e2, hF2, h2, a, rfl, ha⟩
        rw [e1] at e0
        dsimp only at e0
        have ha := ha.mono (F' := Nu S) (fun k hk => hA.nil hk)
        replace hK := hK.fr hF2 ⟨hm.old (oNe rfl), (Sep.ne (hm.ne hn (ownNe rfl)))⟩
        replace h45 := h45.fr hF2 ⟨⟨hm.old (oNe rfl), Nat.le_of_ble_eq_true rfl⟩, (Sep.ne (hm.ne hn (ownNe rfl)))⟩
        replace h46 := h46.fr hF2 ⟨⟨hm.old (oNe rfl), Nat.le_of_ble_eq_true rfl⟩, (Sep.ne (hm.ne hn (ownNe rfl)))⟩
        replace h47 := h47.fr hF2 ⟨⟨hm.old (oNe rfl), Nat.le_of_ble_eq_true rfl⟩, (Sep.ne (hm.ne hn (ownNe rfl)))⟩
        replace hm := hm.fr hF2 ⟨oNe rfl, (Sep.ne (hm.ne hn (ownNe rfl)))⟩
        replace hA := hA.f1 hF2 (fun _ => Or.inl rfl)
        have hn := h2.ob
        (repeat (refine BW.pl rfl rfl ?_))
        first | (refine CW.putr rfl rfl (by assumption) rfl (by decide) (fun S3 hP3 h46 => ?_)) | (refine CW.puti rfl (by assumption) rfl (by decide) (by first | exact Or.inl ⟨rfl, by first | omega | decide | (constructor <;> first | omega | decide)⟩ | exact Or.inr (Or.inl ⟨rfl, by first | omega | decide | (constructor <;> first | omega | decide)⟩) | exact Or.inr (Or.inr (Or.inl ⟨rfl, by first | omega | decide | (constructor <;> first | omega | decide)⟩)) | exact Or.inr (Or.inr (Or.inr ⟨rfl, by first | omega | decide | (constructor <;> first | omega | decide)⟩))) (fun S3 hP3 h46 => ?_))
        replace hK := hK.put hP3 (by decide)
        replace h45 := h45.pu hP3 (Or.inl (Nat.ne_of_beq_eq_false rfl))
        replace h47 := h47.pu hP3 (Or.inl (Nat.ne_of_beq_eq_false rfl))
        replace h2 := h2.pu hP3 (Or.inl ⟨Nat.ne_of_beq_eq_false rfl, Nat.ne_of_beq_eq_false rfl⟩)
        replace ha := ha.pu hP3 hGm
        replace hm := hm.pu hP3 trivial
        replace hn := hn.pu hP3 trivial
        replace hA := hA.f1 hP3.fr (fun _ => Or.inr rfl)
        (repeat (refine BW.pl rfl rfl ?_))
        refine CW.c2 rfl rfl (by first | exact Or.inl rfl | exact Or.inr (tagO (by assumption) (by rfl) (by rfl))) (by first | exact Or.inl (by decide) | exact Or.inr ⟨_, rfl, by assumption⟩) rfl (C_passes (d := d + 8) h2 ⟨by decide, by decide⟩) ?_
        rintro r S4 ⟨hh4, hP4⟩
        replace hK := hK.fr hP4.fr ⟨hm.old (oNe rfl), Sep.ne (hm.ne hn (ownNe rfl))⟩
        replace h45 := h45.pu hP4 (Or.inl (Nat.ne_of_beq_eq_false rfl))
        replace h47 := h47.pu hP4 (Or.inl (Nat.ne_of_beq_eq_false rfl))
        replace ha := ha.pu hP4 hGn
        replace h46 := h46.pu hP4 (Or.inl (Nat.ne_of_beq_eq_false rfl))
        replace hm := hm.pu hP4 trivial
        replace hn := hn.pu hP4 trivial
        replace hA := hA.f1 hP4.fr (fun _ => Or.inl rfl)
        rcases hh4 with ⟨z4, rfl, h4⟩ | ⟨z4, rfl, h4⟩
        · skip
          rw [if_pos z4] at e0
          have hlt : l2.tail.length + 1 = l2.length := by
            obtain ⟨l', rfl⟩ := hd_cons z4 (by decide); rfl
          refine BW.br rfl rfl (by first | omega | decide | (constructor <;> first | omega | decide)) (fun w5 => by first | (exfalso; omega) | exact absurd w5 (by decide)) (fun w5 => ?_)
          have hAv := hA.t
          (repeat (refine BW.pl rfl rfl ?_))
          refine CW.r1 rfl rfl (by first | exact Or.inl rfl | exact Or.inr (tagO (by assumption) (by rfl) (by rfl))) (by first | exact Or.inl (by decide) | exact Or.inr ⟨_, rfl, by assumption⟩) rfl rfl (C_address (d := d + 1) h4 h32 (by omega) (by omega)) ?_ ?_
          · rintro l5 v5 w5 S5 ⟨e5, e6, hF5, h5, a5, rfl, ha5⟩
            rw [e5] at e0
            have ha5 := ha5.mono (F' := Nu S) (fun k hk => hA.nil hk)
            replace hK := hK.fr hF5 ⟨hm.old (oNe rfl), (Sep.ne (hm.ne hn (ownNe rfl)))⟩
            replace h45 := h45.fr hF5 ⟨⟨hm.old (oNe rfl), Nat.le_of_ble_eq_true rfl⟩, (Sep.ne (hm.ne hn (ownNe rfl)))⟩
            replace h47 := h47.fr hF5 ⟨⟨hm.old (oNe rfl), Nat.le_of_ble_eq_true rfl⟩, (Sep.ne (hm.ne hn (ownNe rfl)))⟩
            replace ha := ha.fr hF5 ⟨(NoS.one hn rfl), (Av.ne hGn)⟩
            replace h46 := h46.fr hF5 ⟨⟨hm.old (oNe rfl), Nat.le_of_ble_eq_true rfl⟩, (Sep.ne (hm.ne hn (ownNe rfl)))⟩
            replace hm := hm.fr hF5 ⟨oNe rfl, (Sep.ne (hm.ne hn (ownNe rfl)))⟩
            replace hA := hA.f1 hF5 (fun _ => Or.inl rfl)
            have hn := h5.ob
            (repeat (refine BW.pl rfl rfl ?_))
            first | (refine CW.putr rfl rfl (by assumption) rfl (by decide) (fun S6 hP6 h47 => ?_)) | (refine CW.puti rfl (by assumption) rfl (by decide) (by first | exact Or.inl ⟨rfl, by first | omega | decide | (constructor <;> first | omega | decide)⟩ | exact Or.inr (Or.inl ⟨rfl, by first | omega | decide | (constructor <;> first | omega | decide)⟩) | exact Or.inr (Or.inr (Or.inl ⟨rfl, by first | omega | decide | (constructor <;> first | omega | decide)⟩)) | exact Or.inr (Or.inr (Or.inr ⟨rfl, by first | omega | decide | (constructor <;> first | omega | decide)⟩))) (fun S6 hP6 h47 => ?_))
            replace hK := hK.put hP6 (by decide)
            replace h45 := h45.pu hP6 (Or.inl (Nat.ne_of_beq_eq_false rfl))
            replace ha := ha.pu hP6 hGm
            replace h46 := h46.pu hP6 (Or.inl (Nat.ne_of_beq_eq_false rfl))
            replace h5 := h5.pu hP6 (Or.inl ⟨Nat.ne_of_beq_eq_false rfl, Nat.ne_of_beq_eq_false rfl⟩)
            replace ha5 := ha5.pu hP6 hGm
            replace hm := hm.pu hP6 trivial
            replace hn := hn.pu hP6 trivial
            replace hA := hA.f1 hP6.fr (fun _ => Or.inr rfl)
            exact k l5 _ S6 _ e0 (by omega) h5 hm h45 ⟨some a, h46, a, rfl, ha⟩ ⟨some a5, h47, a5, rfl, ha5⟩ hK hA (by omega)
          · rintro f S5 r S' ⟨e5, hF5, hT5⟩
            rw [e5] at e0
            exact kx f S5 r S' _ e0 (hA.f1 hF5 (fun _ => Or.inl rfl)) (by omega) hT5
        · skip
          rw [if_neg z4] at e0
          refine BW.br rfl rfl (by first | omega | decide | (constructor <;> first | omega | decide)) (fun w5 => ?_) (fun w5 => by first | (exfalso; omega) | exact absurd w5 (by decide))
          (repeat (refine BW.pl rfl rfl ?_))
          first | (refine CW.putr rfl rfl (by assumption) rfl (by decide) (fun S6 hP6 h47 => ?_)) | (refine CW.puti rfl (by assumption) rfl (by decide) (by first | exact Or.inl ⟨rfl, by first | omega | decide | (constructor <;> first | omega | decide)⟩ | exact Or.inr (Or.inl ⟨rfl, by first | omega | decide | (constructor <;> first | omega | decide)⟩) | exact Or.inr (Or.inr (Or.inl ⟨rfl, by first | omega | decide | (constructor <;> first | omega | decide)⟩)) | exact Or.inr (Or.inr (Or.inr ⟨rfl, by first | omega | decide | (constructor <;> first | omega | decide)⟩))) (fun S6 hP6 h47 => ?_))
          replace hK := hK.put hP6 (by decide)
          replace h45 := h45.pu hP6 (Or.inl (Nat.ne_of_beq_eq_false rfl))
          replace ha := ha.pu hP6 hGm
          replace h46 := h46.pu hP6 (Or.inl (Nat.ne_of_beq_eq_false rfl))
          replace h4 := h4.pu hP6 (Or.inl ⟨Nat.ne_of_beq_eq_false rfl, Nat.ne_of_beq_eq_false rfl⟩)
          replace hm := hm.pu hP6 trivial
          replace hn := hn.pu hP6 trivial
          replace hA := hA.f1 hP6.fr (fun _ => Or.inr rfl)
          exact k l2 _ S6 _ e0 (by omega) h4 hm h45 ⟨some a, h46, a, rfl, ha⟩ ⟨none, h47, rfl⟩ hK hA (by omega)
      · rintro f S2 r S' ⟨e1, hF2, hT2⟩
        rw [e1] at e0
        exact kx f S2 r S' _ e0 (hA.f1 hF2 (fun _ => Or.inl rfl)) (by omega) hT2
    · rw [if_neg z2]
      refine BW.br rfl rfl (by first | omega | decide | (constructor <;> first | omega | decide)) (fun w2 => ?_) (fun w2 => by first | (exfalso; omega) | exact absurd w2 (by decide))
      have e : pWhere l = .inr (l, false, none, none) := by unfold pWhere; rw [if_neg z, if_neg z2]
      exact k l _ S1 _ e (Nat.le_refl _) h1 hm h45 ⟨none, h46, rfl⟩ ⟨none, h47, rfl⟩ hK hA (by omega)
end OH
