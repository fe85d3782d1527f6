-- C
set_option maxRecDepth 100000
/-! THE READER: an order that isn't within another; all orders -/
section OK
variable {d i a n q x b m c0 c1 p : Nat} {b1 kd c iv : Int} {M : GMeth} {ls : GL} {st : List GV} {s l l1 l2 l3 f acc : List Int} {S S0 S1 S' : BS} {F F' W : Nat → Prop} {Q : GO → BS → Prop} {y : Option Nat} {o : SOrd} {r : Option Nat} {pt : SPat} {LL : List Nat} {w : Bool × Option SAdr × Option SAdr} {inner : Bool} {xs : List (Option Nat)} {os : List SOrd} {z : Prop}
theorem patR_47 : patR 47 l = match pPat 47 l with | .inl f => .inl f | .inr (l2, k, pt) => if hd l2 = 47 then .inr (l2.tail, k, pt) else .inl l2 := by
  unfold patR
  cases pPat 47 l with
  | inl f => rfl
  | inr y => rfl
theorem pOrder_g {w : Bool × Option SAdr × Option SAdr} (h : pWhere l = .inr (l1, w)) (hg : isGc (hd l1) = true) : pOrder l = match inX (hd l1) l1.tail with
    | .inl f => .inl f
    | .inr (l2, pt, os) => .inr (l2, (w.1, w.2.1, w.2.2, hd l1, 0, [], none, pt, [], [], false), os) := by
  unfold isGc at hg
  have hg := of_decide_eq_true hg
  unfold pOrder inX
  rw [h]
  dsimp only
  by_cases z1 : hd l1 = 123
  · rw [if_pos z1, if_pos z1]
    unfold pBlock
    rw [if_pos z1, tail_len (nil_hd z1 (by decide))]
    cases pInners l1.length l1.tail with
    | inl f => rfl
    | inr y =>
      obtain ⟨l2, os⟩ := y
      dsimp only
      by_cases z2 : hd l2 = 125
      · rw [if_pos z2, if_pos z2, z1]; rfl
      · rw [if_neg z2, if_neg z2]
  · rw [if_neg z1, if_neg z1, if_pos (by omega)]
    by_cases z2 : hd l1.tail = 47
    · rw [if_pos z2, if_pos z2, patR_47]
      cases pPat 47 l1.tail.tail with
      | inl f => rfl
      | inr y =>
        obtain ⟨l2, k, pt⟩ := y
        dsimp only
        by_cases z3 : hd l2 = 47
        · rw [if_pos z3, if_pos z3]
          dsimp only
          by_cases z4 : hd l2.tail = 123
          · rw [if_pos z4, if_pos z4]
            unfold pBlock
            rw [if_pos z4, tail_len (nil_hd z4 (by decide))]
            cases pInners l2.tail.length l2.tail.tail with
            | inl f => rfl
            | inr y =>
              obtain ⟨l3, os⟩ := y
              dsimp only
              by_cases z5 : hd l3 = 125
              · rw [if_pos z5, if_pos z5]
              · rw [if_neg z5, if_neg z5]
          · rw [if_neg z4, if_neg z4]
            cases pInner l2.tail with
            | inl f => rfl
            | inr y => rfl
        · rw [if_neg z3, if_neg z3]
    · rw [if_neg z2, if_neg z2]
theorem pOrder_a {w : Bool × Option SAdr × Option SAdr} (h : pWhere l = .inr (l1, w)) (hg : ¬ isGc (hd l1) = true) : pOrder l = match pAct false w l1 with
    | .inl f => .inl f
    | .inr (l2, o) => .inr (l2, o, []) := by
  have hg : ¬ (hd l1 = 123 ∨ hd l1 = 103 ∨ hd l1 = 71) := fun z => hg (decide_eq_true z)
  unfold pOrder
  rw [h]
  dsimp only
  rw [if_neg (by omega), if_neg (by omega)]
  cases pAct false w l1 <;> rfl
theorem pOrders_f {k : Nat} (h : pOrder l = .inl f) : pOrders k l = .inl f := by cases k <;> (unfold pOrders; rw [h])
theorem pOrders_e {k : Nat} (h : pOrder l = .inr (l1, o)) (h2 : hd l1 ≠ 59) : pOrders k l = .inr (l1, [o]) := by cases k <;> (unfold pOrders; rw [h]; exact if_neg h2)
theorem pOrders_s {k : Nat} (h : pOrder l = .inr (l1, o)) (h2 : hd l1 = 59) : pOrders (k + 1) l = match pOrders k l1.tail with
    | .inl f => .inl f
    | .inr (l2, os) => .inr (l2, o :: os) := by
  conv => lhs; unfold pOrders
  rw [h]
  dsimp only
  rw [if_pos h2]
  cases pOrders k l1.tail <;> rfl
theorem C_behindG (h : RdAt S n s l) (hm : Ob S m (oOwn 7)) (h48 : Fi S 48 m c) (hc : c = 123 ∨ c = 103 ∨ c = 71) (h52 : Fe S 52 m none) (h32 : ∀ x ∈ s, 32 ≤ x) (hl : l.length ≤ 70) (hT : S.2.2.2 < 240000000) : BM (d + 18) gk_X3_behind [aR n, aR m] S (RdZ 2700 n 500 s l S (fun k => k = n ∨ k = m) (inX c l) (fun v w S' => w = none ∧ Ob S' m (oOwn 7) ∧ (∃ r, Fe S' 52 m r ∧ (c = 103 ∨ c = 71 → ∃ p, r = some p ∧ PatIs S' (Nu S) p v.1)) ∧ (∃ q, Fe S' 56 m (some q) ∧ OrIn S' (Nu S) True q v.2) ∧ FlK S S' m [52, 56])) := by
  have hn := h.ob
  refine BM.of rfl rfl rfl ?_
  (repeat (first | (refine BW.pl rfl rfl ?_) | (refine CW.geti rfl rfl (by assumption) rfl rfl (by assumption) (fun _ => ?_)) | (refine CW.getr rfl rfl (by assumption) rfl rfl (by assumption) ?_)))
  refine BW.sw (i' := 74) rfl rfl (by constructor <;> omega) (by rcases hc with rfl | rfl | rfl <;> rfl) ?_
  (repeat (refine BW.pl rfl rfl ?_))
  refine CW.z2 rfl rfl (by first | exact Or.inl rfl | exact Or.inr (tagO (by assumption) (by rfl) (by rfl))) (by first | exact Or.inl (by decide) | exact Or.inr ⟨_, rfl, by assumption⟩) rfl rfl (C_inner (d := d) h hm h48 hc h52 h32 hl hT) ?_ ?_
  · rintro l1 v w1 S1 ⟨e1, e2, hF1, h1, rfl, hm1, e3⟩
    (repeat (refine BW.pl rfl rfl ?_))
    exact BW.ret rfl rfl (RdZ.go e1 e2 hF1 (Nat.le_refl _) h1 ⟨rfl, hm1, e3⟩)
  · rintro f S1 r S' ⟨e1, hF1, hT1⟩
    exact RdZ.fl e1 hF1 (Nat.le_refl _) hT1
theorem C_order (h : RdAt S n s l) (h32 : ∀ x ∈ s, 32 ≤ x) (hl : l.length ≤ 70) (hT : S.2.2.2 < 200000000) : BM (d + 19) gk_X3_order [aR n, aI 0] S (RdZ 2700 n 0 s l S (fun k => k = n) (pOrder l) (fun v w S' => ∃ m, w = vR (some m) ∧ OrdIs S' (Nu S) True m v)) := by
  have hn := h.ob
  have hA := Fr.rf (S := S) (W := fun k => k = n)
  refine BM.of rfl rfl rfl ?_
  refine CW.newO (L := 17) (c := 7) rfl rfl rfl rfl (fun m S1 hN => ?_)
  have hmz := hA.nil hN.nil
  replace h := h.fr hN.fr ⟨NoS.no, Sep.no⟩
  replace hn := hn.fr hN.fr ⟨oNe rfl, Sep.no⟩
  replace hA := hA.nw hN
  have hm := hN.ob
  have hmk := hN.1
  (repeat (refine BW.pl rfl rfl ?_))
  refine CW.c1 rfl rfl (by first | exact Or.inl rfl | exact Or.inr (tagO (by assumption) (by rfl) (by rfl))) (by first | exact Or.inl (by decide) | exact Or.inr ⟨_, rfl, by assumption⟩) rfl (C_ordNew (d := d + 14) hm hmk) ?_
  rintro r S2 ⟨rfl, q, hq0, hF2, hm2, hq2, h50, hK2⟩
  have hqz := hA.nil hq0
  have z2 : ∀ F, F < 91 → F ≠ 50 → Fi S2 F m 0 ∧ Fe S2 F m none := fun F f1 f2 => ⟨hK2.fi (hN.2.2.2.2 F f1).1 ⟨f1, fun z => f2 (List.mem_singleton.mp z)⟩, hK2.fe (hN.2.2.2.2 F f1).2 ⟨f1, fun z => f2 (List.mem_singleton.mp z)⟩⟩
  replace h := h.fr hF2 ⟨(NoS.one hm rfl), (Sep.ne (hn.ne hm (ownNe rfl)))⟩
  replace hn := hn.fr hF2 ⟨oNe rfl, (Sep.ne (hn.ne hm (ownNe rfl)))⟩
  replace hA := hA.f1 hF2 (fun z => absurd hmz z)
  have hAu := hA.t
  have hA2 := hA
  have hGn : ¬ Nu S2 n := Nu.not hn (oNe rfl)
  have hGm : ¬ Nu S2 m := Nu.not hm2 (oNe rfl)
  have hGq : ¬ Nu S2 q := Nu.not hq2 (oNe rfl)
  (iterate 1 (refine BW.pl rfl rfl ?_))
  refine orWhere (d := d + 4) h hm2 (z2 45 (by decide) (by decide)).1 (z2 46 (by decide) (by decide)).2 (z2 47 (by decide) (by decide)).2 h32 hl (by omega) (fun l1 w S3 c3 e1 e2 h3 hm3 g45 g46 g47 hK3 hF3 hc3 => ?_) (fun f S3 r S' c3 e1 hF3 hc3 hT3 => ?_)
  · obtain ⟨r46, g46, a46⟩ := g46
    obtain ⟨r47, g47, a47⟩ := g47
    have h50 := hK3.fe h50 ⟨by decide, by decide⟩
    have z3 : ∀ F, F < 91 → F ∉ [45, 46, 47, 50] → Fi S3 F m 0 ∧ Fe S3 F m none := fun F f1 f2 => by
      have f3 : F ≠ 50 := fun z => f2 (by rw [z]; decide)
      have f4 : F ∉ [45, 46, 47] := fun z => f2 (by simp at z ⊢; omega)
      exact ⟨hK3.fi (z2 F f1 f3).1 ⟨f1, f4⟩, hK3.fe (z2 F f1 f3).2 ⟨f1, f4⟩⟩
    have hK4 := FlK.rf (S := S3) (m := m) (LL := [48])
    replace hq2 := hq2.fr hF3 ⟨oNe rfl, (Sep.two (Sep.ne (hq2.ne hn (oNe rfl))) (Sep.ne (hq2.ne hm2 (oNe rfl))))⟩
    replace hA := hA.f2 hF3 (fun _ => rfl) (fun z => absurd hmz z)
    have hn := h3.ob
    have hA3 := hA
    refine orAct (d := d + 4) (w := w) (Or.inl rfl) h3 hm3 g45 g46 a46 (fun S4 S5 y0 y1 y2 y3 hP4 hP5 h5 h48 => ?_) (fun y r S' hT => ?_)
    · replace hK4 := hK4.fr hP4.fr ⟨hm3.old (oNe rfl), Sep.ne (hm3.ne hn (ownNe rfl))⟩
      replace g45 := g45.pu hP4 (Or.inl (Nat.ne_of_beq_eq_false rfl))
      replace g46 := g46.pu hP4 (Or.inl (Nat.ne_of_beq_eq_false rfl))
      replace g47 := g47.pu hP4 (Or.inl (Nat.ne_of_beq_eq_false rfl))
      replace h50 := h50.pu hP4 (Or.inl (Nat.ne_of_beq_eq_false rfl))
      replace a46 := a46.pu hP4 hGn
      replace a47 := a47.pu hP4 hGn
      replace hq2 := hq2.pu hP4 trivial
      replace hn := hn.pu hP4 trivial
      replace hm3 := hm3.pu hP4 trivial
      replace hA := hA.f1 hP4.fr (fun _ => rfl)
      replace hK4 := hK4.put hP5 (by decide)
      replace g45 := g45.pu hP5 (Or.inl (Nat.ne_of_beq_eq_false rfl))
      replace g46 := g46.pu hP5 (Or.inl (Nat.ne_of_beq_eq_false rfl))
      replace g47 := g47.pu hP5 (Or.inl (Nat.ne_of_beq_eq_false rfl))
      replace h50 := h50.pu hP5 (Or.inl (Nat.ne_of_beq_eq_false rfl))
      replace a46 := a46.pu hP5 hGm
      replace a47 := a47.pu hP5 hGm
      replace hq2 := hq2.pu hP5 trivial
      replace hn := hn.pu hP5 trivial
      replace hm3 := hm3.pu hP5 trivial
      replace hA := hA.f1 hP5.fr (fun z => absurd hmz z)
      have hl1 := tail_len y0
      have z5 : ∀ F, F < 91 → F ∉ [45, 46, 47, 48, 50] → Fi S5 F m 0 ∧ Fe S5 F m none := fun F f1 f2 => by
        have f3 : F ∉ [45, 46, 47, 50] := fun z => f2 (by simp at z ⊢; omega)
        have f4 : F ∉ [48] := fun z => f2 (by simp at z ⊢; omega)
        exact ⟨hK4.fi (z3 F f1 f3).1 ⟨f1, f4⟩, hK4.fe (z3 F f1 f3).2 ⟨f1, f4⟩⟩
      have hA5 := hA
      have hAv := hA.t
      (repeat (refine BW.pl rfl rfl ?_))
      by_cases yg : isGc (hd l1) = true
      · have sp := pOrder_g e1 yg
        have hcg : hd l1 = 123 ∨ hd l1 = 103 ∨ hd l1 = 71 := of_decide_eq_true yg
        refine CW.z2 rfl rfl (by first | exact Or.inl rfl | exact Or.inr (tagO (by assumption) (by rfl) (by rfl))) (by first | exact Or.inl (by decide) | exact Or.inr ⟨_, rfl, by assumption⟩) rfl rfl (C_behindG (d := d) h5 hm3 h48 hcg (z5 52 (by decide) (by decide)).2 h32 (by omega) (by omega)) ?_ ?_
        · rintro l2 ⟨pt, os⟩ w6 S6 ⟨e6, e7, hF6, h6, rfl, hm6, ⟨r52, g52, a52⟩, ⟨q2, g56, a56⟩, hK6⟩
          have g45 := hK6.fi g45 ⟨by decide, by decide⟩
          have g46 := hK6.fe g46 ⟨by decide, by decide⟩
          have g47 := hK6.fe g47 ⟨by decide, by decide⟩
          have h48 := hK6.fi h48 ⟨by decide, by decide⟩
          have h50 := hK6.fe h50 ⟨by decide, by decide⟩
          have z6 : ∀ F, F < 91 → F ∉ [45, 46, 47, 48, 50, 52, 56] → Fi S6 F m 0 ∧ Fe S6 F m none := fun F f1 f2 => by
            have f3 : F ∉ [45, 46, 47, 48, 50] := fun z => f2 (by simp at z ⊢; omega)
            have f4 : F ∉ [52, 56] := fun z => f2 (by simp at z ⊢; omega)
            exact ⟨hK6.fi (z5 F f1 f3).1 ⟨f1, f4⟩, hK6.fe (z5 F f1 f3).2 ⟨f1, f4⟩⟩
          replace a46 := a46.fr hF6 ⟨(NoS.two (NoS.one hn rfl) (NoS.one hm3 rfl)), (Av.two (Av.ne hGn) (Av.ne hGm))⟩
          replace a47 := a47.fr hF6 ⟨(NoS.two (NoS.one hn rfl) (NoS.one hm3 rfl)), (Av.two (Av.ne hGn) (Av.ne hGm))⟩
          replace hq2 := hq2.fr hF6 ⟨oNe rfl, (Sep.two (Sep.ne (hq2.ne hn (oNe rfl))) (Sep.ne (hq2.ne hm3 (oNe rfl))))⟩
          replace hA := hA.f2 hF6 (fun _ => rfl) (fun z => absurd hmz z)
          (repeat (refine BW.pl rfl rfl ?_))
          have bh : BhIs S6 (Nu S) m q (hd l1) (0, [], none, pt, [], [], false) := ⟨(z6 49 (by decide) (by decide)).1, ⟨[], 0, hq2, StrsIs.nil⟩, ⟨none, (z6 51 (by decide) (by decide)).2, rfl⟩, ⟨r52, g52, fun z => (a52 (by omega)).imp (fun p hp => ⟨hp.1, hp.2.mono (F' := Nu S) (fun k hk => hA5.nil hk)⟩)⟩, ⟨none, (z6 53 (by decide) (by decide)).2, fun z => by omega⟩, ⟨none, (z6 54 (by decide) (by decide)).2, fun z => by omega⟩, (z6 55 (by decide) (by decide)).1⟩
          exact BW.aret rfl rfl (RdZ.go (by rw [sp, e6]) (by omega) hA (by omega) h6 ⟨m, rfl, ⟨hmz, hm6, g45, ⟨r46, g46, a46.mono (F' := Nu S) (fun k hk => hA2.nil hk)⟩, ⟨r47, g47, a47.mono (F' := Nu S) (fun k hk => hA2.nil hk)⟩, h48, ⟨q, h50, hqz, bh⟩, fun _ f f1 f2 => (z6 f (by omega) (fun z => by simp at z; omega)).1⟩, some q2, g56, Or.inl ⟨yg, q2, rfl, a56.mono (F' := Nu S) (fun k hk => hA5.nil hk)⟩⟩)
        · rintro f S6 r S' ⟨e6, hF6, hT6⟩
          exact RdZ.fl (by rw [sp, e6]) (hA.f2 hF6 (fun _ => rfl) (fun z => absurd hmz z)) (by omega) hT6
      · have y1' : isAcN (hd l1) := y1.resolve_right yg
        have sp : pOrder l = match (match bhR (hd l1) l1.tail with
            | .inl f => .inl f
            | .inr (l2, v) => .inr (l2, w.1, w.2.1, w.2.2, hd l1, v) : PR SOrd0) with
            | .inl f => .inl f
            | .inr (l2, o) => .inr (l2, o, []) := by
          rw [pOrder_a e1 yg, pAct_ok y0 y1' (fun z => absurd z.2 (by decide)) y3]
          cases bhR (hd l1) l1.tail <;> rfl
        refine CW.r2 rfl rfl (by first | exact Or.inl rfl | exact Or.inr (tagO (by assumption) (by rfl) (by rfl))) (by first | exact Or.inl (by decide) | exact Or.inr ⟨_, rfl, by assumption⟩) rfl rfl (C_behind (d := d + 4) h5 hm3 h48 h50 hq2 (z5 49 (by decide) (by decide)).1 (z5 51 (by decide) (by decide)).2 (z5 52 (by decide) (by decide)).2 (z5 53 (by decide) (by decide)).2 (z5 54 (by decide) (by decide)).2 (z5 55 (by decide) (by decide)).1 y1' h32 (by omega) (by omega)) ?_ ?_
        · rintro l2 v w6 S6 ⟨e6, e7, hF6, h6, rfl, hm6, bh, hK6⟩
          have g45 := hK6.fi g45 ⟨by decide, by decide⟩
          have g46 := hK6.fe g46 ⟨by decide, by decide⟩
          have g47 := hK6.fe g47 ⟨by decide, by decide⟩
          have h48 := hK6.fi h48 ⟨by decide, by decide⟩
          have h50 := hK6.fe h50 ⟨by decide, by decide⟩
          have z6 : ∀ F, 56 ≤ F → F ≤ 61 → Fi S6 F m 0 ∧ Fe S6 F m none := fun F f1 f2 => by
            have f3 : F ∉ [45, 46, 47, 48, 50] := fun z => by simp at z; omega
            have f4 : F ∉ [49, 51, 52, 53, 54, 55] := fun z => by simp at z; omega
            exact ⟨hK6.fi (z5 F (by omega) f3).1 ⟨by omega, f4⟩, hK6.fe (z5 F (by omega) f3).2 ⟨by omega, f4⟩⟩
          replace a46 := a46.fr hF6 ⟨(NoS.three (NoS.one hn rfl) (NoS.one hm3 rfl) (NoS.one hq2 rfl)), (Av.three (Av.ne hGn) (Av.ne hGm) (Av.ne hGq))⟩
          replace a47 := a47.fr hF6 ⟨(NoS.three (NoS.one hn rfl) (NoS.one hm3 rfl) (NoS.one hq2 rfl)), (Av.three (Av.ne hGn) (Av.ne hGm) (Av.ne hGq))⟩
          replace hA := hA.f3 hF6 (fun _ => rfl) (fun z => absurd hmz z) (fun z => absurd hqz z)
          (repeat (refine BW.pl rfl rfl ?_))
          exact BW.aret rfl rfl (RdZ.go (by rw [sp, e6]) (by omega) hA (by omega) h6 ⟨m, rfl, ⟨hmz, hm6, g45, ⟨r46, g46, a46.mono (F' := Nu S) (fun k hk => hA2.nil hk)⟩, ⟨r47, g47, a47.mono (F' := Nu S) (fun k hk => hA2.nil hk)⟩, h48, ⟨q, h50, hqz, bh.mono (F' := Nu S) (fun k hk => hA5.nil hk)⟩, fun _ f f1 f2 => (z6 f (by omega) f2).1⟩, none, (z6 56 (by decide) (by decide)).2, Or.inr ⟨ac_ng y1', rfl, rfl⟩⟩)
        · rintro f S6 r S' ⟨e6, hF6, hT6⟩
          exact RdZ.fl (by rw [sp, e6]) (hA.f3 hF6 (fun _ => rfl) (fun z => absurd hmz z) (fun z => absurd hqz z)) (by omega) hT6
    · refine RdZ.fl (f := l1) ?_ hA (by omega) hT
      have yg : ¬ isGc (hd l1) = true := fun z => by
        rcases y with y | y | y | y
        · rw [y] at z; revert z; decide
        · exact y (Or.inr z)
        · exact absurd y.1 (by decide)
        · rw [y.1] at z; revert z; decide
      rw [pOrder_a e1 yg, pAct_no ?_]
      rcases y with y | y | y | y
      · exact Or.inl y
      · exact Or.inr (Or.inl (fun z => y (Or.inl z)))
      · exact absurd y.1 (by decide)
      · exact Or.inr (Or.inr (Or.inr y))
  · refine RdZ.fl (f := f) ?_ (hA.f2 hF3 (fun _ => rfl) (fun z => absurd hmz z)) (by omega) hT3
    unfold pOrder
    rw [e1]
end OK
