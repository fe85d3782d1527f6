-- C
set_option maxRecDepth 100000
/-! THE READER: orders within others -/
def OrEls (S : BS) (F : Nat → Prop) (z : Prop) (xs : List (Option Nat)) (os : List SOrd0) : Prop := Els (Or1 S F z) noOrd0 xs os
section OJ
variable {d i a n q x b m c0 c1 : Nat} {b1 kd c iv : Int} {M : GMeth} {ls : GL} {st : List GV} {s l l1 l2 l3 f acc : List Int} {S S0 S1 S' : BS} {F F' W : Nat → Prop} {Q : GO → BS → Prop} {y : Option Nat} {o : SOrd0} {r : Option Nat} {pt : SPat} {LL : List Nat} {w : Bool × Option SAdr × Option SAdr} {inner : Bool} {xs : List (Option Nat)} {os : List SOrd0} {z : Prop}
theorem OrEls.fr (h : OrEls S F z xs os) (hF : Fr S S' W c0) (hs : NoS S W ∧ Av F W) : OrEls S' F z xs os := h.imp (fun _ _ hk => hk.fr hF hs)
theorem OrEls.pu (h : OrEls S F z xs os) (hP : Pu S S' a n) (hs : ¬ F n) : OrEls S' F z xs os := h.imp (fun _ _ hk => hk.pu hP hs)
theorem OrEls.mono (h : OrEls S F z xs os) (hm : ∀ m, F m → F' m) : OrEls S F' z xs os := h.imp (fun _ _ hk => hk.mono hm)
theorem gc_no {c : Int} (h : isGc c = true) : ¬ isAcN c := fun z => by
  unfold isGc at h; have := of_decide_eq_true h; unfold isAcN at z; omega
theorem ac_ng {c : Int} (h : isAcN c) : isGc c = false := by
  unfold isGc; refine decide_eq_false (fun z => ?_); unfold isAcN at h; omega
theorem tail_len (h : l ≠ []) : l.tail.length + 1 = l.length := by
  cases l with
  | nil => exact absurd rfl h
  | cons x l => rfl
theorem nil_hd {c : Int} (h : hd l = c) (hc : c ≠ 0) : l ≠ [] := fun z => by rw [z] at h; exact hc h.symm
theorem pInners_f {k : Nat} (h : pInner l = .inl f) : pInners k l = .inl f := by cases k <;> (unfold pInners; rw [h])
theorem pInners_e {k : Nat} (h : pInner l = .inr (l1, o)) (h2 : hd l1 ≠ 59) : pInners k l = .inr (l1, [o]) := by cases k <;> (unfold pInners; rw [h]; exact if_neg h2)
theorem pInners_s {k : Nat} (h : pInner l = .inr (l1, o)) (h2 : hd l1 = 59) : pInners (k + 1) l = match pInners k l1.tail with
    | .inl f => .inl f
    | .inr (l2, os) => .inr (l2, o :: os) := by
  conv => lhs; unfold pInners
  rw [h]
  dsimp only
  rw [if_pos h2]
  cases pInners k l1.tail <;> rfl
theorem C_orderI (h : RdAt S n s l) (h32 : ∀ x ∈ s, 32 ≤ x) (hl : l.length ≤ 70) (hT : S.2.2.2 < 400000000) : BM (d + 15) gk_X3_order [aR n, aI 1] S (RdZ 2600 n 0 s l S (fun k => k = n) (pInner l) (fun v w S' => ∃ m, w = vR (some m) ∧ Or1 S' (Nu S) True m v)) := by
  have hn := h.ob
  have hA := Fr.rf (S := S) (W := fun k => k = n)
  refine BM.of rfl rfl rfl ?_
  refine CW.newO (L := 17) (c := 7) rfl rfl rfl rfl (fun m S1 hN => ?_)
  have hmz := hA.nil hN.nil
  replace h := h.fr hN.fr ⟨NoS.no, Sep.no⟩
  replace hn := hn.fr hN.fr ⟨oNe rfl, Sep.no⟩
  replace hA := hA.nw hN
  have hm := hN.ob
  have hmk := hN.1
  (repeat (refine BW.pl rfl rfl ?_))
  refine CW.c1 rfl rfl (by first | exact Or.inl rfl | exact Or.inr (tagO (by assumption) (by rfl) (by rfl))) (by first | exact Or.inl (by decide) | exact Or.inr ⟨_, rfl, by assumption⟩) rfl (C_ordNew (d := d + 10) hm hmk) ?_
  rintro r S2 ⟨rfl, q, hq0, hF2, hm2, hq2, h50, hK2⟩
  have hqz := hA.nil hq0
  have z2 : ∀ F, F < 91 → F ≠ 50 → Fi S2 F m 0 ∧ Fe S2 F m none := fun F f1 f2 => ⟨hK2.fi (hN.2.2.2.2 F f1).1 ⟨f1, fun z => f2 (List.mem_singleton.mp z)⟩, hK2.fe (hN.2.2.2.2 F f1).2 ⟨f1, fun z => f2 (List.mem_singleton.mp z)⟩⟩
  replace h := h.fr hF2 ⟨(NoS.one hm rfl), (Sep.ne (hn.ne hm (ownNe rfl)))⟩
  replace hn := hn.fr hF2 ⟨oNe rfl, (Sep.ne (hn.ne hm (ownNe rfl)))⟩
  replace hA := hA.f1 hF2 (fun z => absurd hmz z)
  have hAu := hA.t
  have hA2 := hA
  have hGn : ¬ Nu S2 n := Nu.not hn (oNe rfl)
  have hGm : ¬ Nu S2 m := Nu.not hm2 (oNe rfl)
  have hGq : ¬ Nu S2 q := Nu.not hq2 (oNe rfl)
  (iterate 1 (refine BW.pl rfl rfl ?_))
  refine orWhere (d := d) h hm2 (z2 45 (by decide) (by decide)).1 (z2 46 (by decide) (by decide)).2 (z2 47 (by decide) (by decide)).2 h32 hl (by omega) (fun l1 w S3 c3 e1 e2 h3 hm3 g45 g46 g47 hK3 hF3 hc3 => ?_) (fun f S3 r S' c3 e1 hF3 hc3 hT3 => ?_)
  · obtain ⟨r46, g46, a46⟩ := g46
    obtain ⟨r47, g47, a47⟩ := g47
    have h50 := hK3.fe h50 ⟨by decide, by decide⟩
    have z3 : ∀ F, F < 91 → F ∉ [45, 46, 47, 50] → Fi S3 F m 0 ∧ Fe S3 F m none := fun F f1 f2 => by
      have f3 : F ≠ 50 := fun z => f2 (by rw [z]; decide)
      have f4 : F ∉ [45, 46, 47] := fun z => f2 (by simp at z ⊢; omega)
      exact ⟨hK3.fi (z2 F f1 f3).1 ⟨f1, f4⟩, hK3.fe (z2 F f1 f3).2 ⟨f1, f4⟩⟩
    have hK4 := FlK.rf (S := S3) (m := m) (LL := [48])
    replace hq2 := hq2.fr hF3 ⟨oNe rfl, (Sep.two (Sep.ne (hq2.ne hn (oNe rfl))) (Sep.ne (hq2.ne hm2 (oNe rfl))))⟩
    replace hA := hA.f2 hF3 (fun _ => rfl) (fun z => absurd hmz z)
    have hn := h3.ob
    have hA3 := hA
    refine orAct (d := d) (w := w) (Or.inr rfl) h3 hm3 g45 g46 a46 (fun S4 S5 y0 y1 y2 y3 hP4 hP5 h5 h48 => ?_) (fun y r S' hT => ?_)
    · replace hK4 := hK4.fr hP4.fr ⟨hm3.old (oNe rfl), Sep.ne (hm3.ne hn (ownNe rfl))⟩
      replace g45 := g45.pu hP4 (Or.inl (Nat.ne_of_beq_eq_false rfl))
      replace g46 := g46.pu hP4 (Or.inl (Nat.ne_of_beq_eq_false rfl))
      replace g47 := g47.pu hP4 (Or.inl (Nat.ne_of_beq_eq_false rfl))
      replace h50 := h50.pu hP4 (Or.inl (Nat.ne_of_beq_eq_false rfl))
      replace a46 := a46.pu hP4 hGn
      replace a47 := a47.pu hP4 hGn
      replace hq2 := hq2.pu hP4 trivial
      replace hn := hn.pu hP4 trivial
      replace hm3 := hm3.pu hP4 trivial
      replace hA := hA.f1 hP4.fr (fun _ => rfl)
      replace hK4 := hK4.put hP5 (by decide)
      replace g45 := g45.pu hP5 (Or.inl (Nat.ne_of_beq_eq_false rfl))
      replace g46 := g46.pu hP5 (Or.inl (Nat.ne_of_beq_eq_false rfl))
      replace g47 := g47.pu hP5 (Or.inl (Nat.ne_of_beq_eq_false rfl))
      replace h50 := h50.pu hP5 (Or.inl (Nat.ne_of_beq_eq_false rfl))
      replace a46 := a46.pu hP5 hGm
      replace a47 := a47.pu hP5 hGm
      replace hq2 := hq2.pu hP5 trivial
      replace hn := hn.pu hP5 trivial
      replace hm3 := hm3.pu hP5 trivial
      replace hA := hA.f1 hP5.fr (fun z => absurd hmz z)
      have y1' : isAcN (hd l1) := y1.resolve_right (fun z => y2 ⟨rfl, Or.inr z⟩)
      have sp : pInner l = match bhR (hd l1) l1.tail with
          | .inl f => .inl f
          | .inr (l2, v) => .inr (l2, w.1, w.2.1, w.2.2, hd l1, v) := by
        unfold pInner
        rw [e1]
        exact pAct_ok y0 y1' (fun z => y2 ⟨rfl, Or.inl z.1⟩) y3
      have hl1 := tail_len y0
      have z5 : ∀ F, F < 91 → F ∉ [45, 46, 47, 48, 50] → Fi S5 F m 0 ∧ Fe S5 F m none := fun F f1 f2 => by
        have f3 : F ∉ [45, 46, 47, 50] := fun z => f2 (by simp at z ⊢; omega)
        have f4 : F ∉ [48] := fun z => f2 (by simp at z ⊢; omega)
        exact ⟨hK4.fi (z3 F f1 f3).1 ⟨f1, f4⟩, hK4.fe (z3 F f1 f3).2 ⟨f1, f4⟩⟩
      have hA5 := hA
      have hAv := hA.t
      (repeat (refine BW.pl rfl rfl ?_))
      refine CW.r2 rfl rfl (by first | exact Or.inl rfl | exact Or.inr (tagO (by assumption) (by rfl) (by rfl))) (by first | exact Or.inl (by decide) | exact Or.inr ⟨_, rfl, by assumption⟩) rfl rfl (C_behind (d := d) h5 hm3 h48 h50 hq2 (z5 49 (by decide) (by decide)).1 (z5 51 (by decide) (by decide)).2 (z5 52 (by decide) (by decide)).2 (z5 53 (by decide) (by decide)).2 (z5 54 (by decide) (by decide)).2 (z5 55 (by decide) (by decide)).1 y1' h32 (by omega) (by omega)) ?_ ?_
      · rintro l2 v w6 S6 ⟨e6, e7, hF6, h6, rfl, hm6, bh, hK6⟩
        have g45 := hK6.fi g45 ⟨by decide, by decide⟩
        have g46 := hK6.fe g46 ⟨by decide, by decide⟩
        have g47 := hK6.fe g47 ⟨by decide, by decide⟩
        have h48 := hK6.fi h48 ⟨by decide, by decide⟩
        have h50 := hK6.fe h50 ⟨by decide, by decide⟩
        have z6 : ∀ F, 56 ≤ F → F ≤ 61 → Fi S6 F m 0 ∧ Fe S6 F m none := fun F f1 f2 => by
          have f3 : F ∉ [45, 46, 47, 48, 50] := fun z => by simp at z; omega
          have f4 : F ∉ [49, 51, 52, 53, 54, 55] := fun z => by simp at z; omega
          exact ⟨hK6.fi (z5 F (by omega) f3).1 ⟨by omega, f4⟩, hK6.fe (z5 F (by omega) f3).2 ⟨by omega, f4⟩⟩
        replace a46 := a46.fr hF6 ⟨(NoS.three (NoS.one hn rfl) (NoS.one hm3 rfl) (NoS.one hq2 rfl)), (Av.three (Av.ne hGn) (Av.ne hGm) (Av.ne hGq))⟩
        replace a47 := a47.fr hF6 ⟨(NoS.three (NoS.one hn rfl) (NoS.one hm3 rfl) (NoS.one hq2 rfl)), (Av.three (Av.ne hGn) (Av.ne hGm) (Av.ne hGq))⟩
        replace hA := hA.f3 hF6 (fun _ => rfl) (fun z => absurd hmz z) (fun z => absurd hqz z)
        (repeat (refine BW.pl rfl rfl ?_))
        exact BW.aret rfl rfl (RdZ.go (by rw [sp, e6]) (by omega) hA (by omega) h6 ⟨m, rfl, ⟨hmz, hm6, g45, ⟨r46, g46, a46.mono (F' := Nu S) (fun k hk => hA2.nil hk)⟩, ⟨r47, g47, a47.mono (F' := Nu S) (fun k hk => hA2.nil hk)⟩, h48, ⟨q, h50, hqz, bh.mono (F' := Nu S) (fun k hk => hA5.nil hk)⟩, fun _ f f1 f2 => (z6 f (by omega) f2).1⟩, (z6 56 (by decide) (by decide)).2, ac_ng y1'⟩)
      · rintro f S6 r S' ⟨e6, hF6, hT6⟩
        exact RdZ.fl (by rw [sp, e6]) (hA.f3 hF6 (fun _ => rfl) (fun z => absurd hmz z) (fun z => absurd hqz z)) (by omega) hT6
    · refine RdZ.fl (f := l1) ?_ hA (by omega) hT
      unfold pInner
      rw [e1]
      refine pAct_no ?_
      rcases y with y | y | y | y
      · exact Or.inl y
      · exact Or.inr (Or.inl (fun z => y (Or.inl z)))
      · rcases y.2 with y | y
        · exact Or.inr (Or.inr (Or.inl ⟨y, rfl⟩))
        · exact Or.inr (Or.inl (gc_no y))
      · exact Or.inr (Or.inr (Or.inr y))
  · refine RdZ.fl (f := f) ?_ (hA.f2 hF3 (fun _ => rfl) (fun z => absurd hmz z)) (by omega) hT3
    unfold pInner
    rw [e1]
theorem C_ordersI {K : Nat} (hK : l.length < K) (h : RdAt S n s l) (h32 : ∀ x ∈ s, 32 ≤ x) (hl : l.length ≤ 70) (hT : S.2.2.2 < 300000000) : BM (d + 16) gk_X3_orders [aR n, aI 1] S (RdZ 2700 n 100 s l S (fun k => k = n) (pInners K l) (fun v w S' => ∃ q, w = vR (some q) ∧ OrIn S' (Nu S) True q v)) := by
  have hn := h.ob
  have hA := Fr.rf (S := S) (W := fun k => k = n)
  refine BM.of rfl rfl rfl ?_
  refine CW.newJ (L := 3) (c := 16) rfl rfl rfl (fun q S1 hN => ?_)
  have hqz := hA.nil hN.nil
  replace h := h.fr hN.fr ⟨NoS.no, Sep.no⟩
  replace hn := hn.fr hN.fr ⟨oNe rfl, Sep.no⟩
  replace hA := hA.nw hN
  have hq := hN.ob
  have hqk := hN.1
  (repeat (refine BW.pl rfl rfl ?_))
  refine CW.c1 rfl rfl (by first | exact Or.inl rfl | exact Or.inr (tagO (by assumption) (by rfl) (by rfl))) (by first | exact Or.inl (by decide) | exact Or.inr ⟨_, rfl, by assumption⟩) rfl (C_alNew (d := d + 12) hq) ?_
  rintro r S2 ⟨rfl, hq2, hF2⟩
  replace h := h.fr hF2 ⟨(NoS.one hq rfl), (Sep.ne (hn.ne hq (oNe rfl)))⟩
  replace hn := hn.fr hF2 ⟨oNe rfl, (Sep.ne (hn.ne hq (oNe rfl)))⟩
  replace hA := hA.f1 hF2 (fun z => absurd hqz z)
  have hA2 := hA
  have hGn : ¬ Nu S2 n := Nu.not hn (oNe rfl)
  have hGq : ¬ Nu S2 q := Nu.not hq2 (oNe rfl)
  (iterate 1 (refine BW.pl rfl rfl ?_))
  have loop : ∀ (k : Nat) (l3 : List Int) (acc : List SOrd0) (S3 : BS) (xs : List (Option Nat)) (cap c3 : Nat), l3.length < k → RdAt S3 n s l3 → Ob S3 q (oAl xs cap) → OrEls S3 (Nu S2) True xs acc → Fr S2 S3 (fun k => k = n ∨ k = q) c3 → c3 ≤ 2601 * (l.length - l3.length) + 6 * cap → cap ≤ 2 * acc.length + 10 → acc.length + l3.length ≤ l.length → (pInners K l = match pInners k l3 with
      | .inl f => .inl f
      | .inr (l1, os) => .inr (l1, acc ++ os)) → BW (d + 15) gm_X3_orders 4 [some (aR n), some (aI 1), some (aR q)] [] S3 (RdZ 2700 n 100 s l S (fun k => k = n) (pInners K l) (fun v w S' => ∃ q, w = vR (some q) ∧ OrIn S' (Nu S) True q v)) := by
    intro k
    induction k with
    | zero => intro l3 acc S3 xs cap c3 hk; exact absurd hk (Nat.not_lt_zero _)
    | succ k ih =>
      intro l3 acc S3 xs cap c3 hk h3 hq3 hE hB hc3 hcap hacc hsp
      have hn := h3.ob
      have hAu := hA2.t
      have hBu := hB.t
      have hGq3 : ¬ Nu S3 q := Nu.not hq3 (oNe rfl)
      have hGn3 : ¬ Nu S3 n := Nu.not hn (oNe rfl)
      have hB3 := hB
      have hel := hE.1
      have hxo : ∀ i, i < xs.length → ∀ k, xs.getD i none = some k → S3.1 k ≠ oNil := fun i hi k e => by
        obtain ⟨k', ⟨e', _⟩, ho⟩ := hE.2 i (by rw [← hel]; exact hi)
        rw [e'] at e; cases e
        exact ho.1.2.1.old (oNe rfl)
      (repeat (refine BW.pl rfl rfl ?_))
      refine CW.z2 rfl rfl (by first | exact Or.inl rfl | exact Or.inr (tagO (by assumption) (by rfl) (by rfl))) (by first | exact Or.inl (by decide) | exact Or.inr ⟨_, rfl, by assumption⟩) rfl rfl (C_orderI (d := d) h3 h32 (by omega) (by omega)) ?_ ?_
      · rintro l4 v w4 S4 ⟨e4, e5, hF4, h4, m, rfl, hm4⟩
        replace hE := hE.fr hF4 ⟨(NoS.one hn rfl), (Av.ne hGn)⟩
        replace hq3 := hq3.fr hF4 ⟨oNe rfl, (Sep.ne (hq3.ne hn (oNe rfl)))⟩
        replace hB := hB.f1 hF4 (fun _ => Or.inl rfl)
        have hn := h4.ob
        have hBv := hB.t
        have hv := vOk_o hm4.1.2.1 rfl
        refine CW.c2 rfl rfl (by first | exact Or.inl rfl | exact Or.inr (tagO (by assumption) (by rfl) (by rfl))) (by first | exact Or.inl (by decide) | exact Or.inr ⟨_, rfl, by assumption⟩) rfl (C_alAdd (d := d + 9) hq3 hv (by omega) (by omega)) ?_
        rintro r S5 ⟨rfl, cap', hq5, hF5, hc1, hc2⟩
        replace hE := hE.fr hF5 ⟨(NoS.one hq3 rfl), (Av.ne hGq)⟩
        replace h4 := h4.fr hF5 ⟨(NoS.one hq3 rfl), (Sep.ne (hn.ne hq3 (oNe rfl)))⟩
        replace hm4 := hm4.fr hF5 ⟨(NoS.one hq3 rfl), (Av.ne hGq3)⟩
        replace hn := hn.fr hF5 ⟨oNe rfl, (Sep.ne (hn.ne hq3 (oNe rfl)))⟩
        replace hB := hB.f1 hF5 (fun _ => Or.inr rfl)
        have hE5 : OrEls S5 (Nu S2) True (xs ++ [some m]) (acc ++ [v]) := Els.app hE (hm4.mono (F' := Nu S2) (fun k hk => hB3.nil hk)) (fun i hi e => hxo i hi m e hm4.1.1)
        (repeat (refine BW.pl rfl rfl ?_))
        refine CW.c2 rfl rfl (by first | exact Or.inl rfl | exact Or.inr (tagO (by assumption) (by rfl) (by rfl))) (by first | exact Or.inl (by decide) | exact Or.inr ⟨_, rfl, by assumption⟩) rfl (C_passes (d := d + 9) h4 ⟨by decide, by decide⟩) ?_
        rintro r S6 ⟨hh6, hP6⟩
        replace hE5 := hE5.pu hP6 hGn
        replace hn := hn.pu hP6 trivial
        replace hq5 := hq5.pu hP6 trivial
        replace hB := hB.f1 hP6.fr (fun _ => Or.inl rfl)
        rcases hh6 with ⟨z, rfl, h6⟩ | ⟨z, rfl, h6⟩
        · have hl4 := tail_len (nil_hd z (by decide))
          refine BW.br rfl rfl (by first | omega | decide | (constructor <;> first | omega | decide)) (fun w => ?_) (fun w => by first | (exfalso; omega) | exact absurd w (by decide))
          refine ih l4.tail (acc ++ [v]) S6 _ cap' _ (by omega) h6 hq5 hE5 hB (by omega) (by rw [List.length_append]; simp; omega) (by rw [List.length_append]; simp; omega) ?_
          rw [hsp, pInners_s e4 z]
          cases pInners k l4.tail with
          | inl f => rfl
          | inr y => obtain ⟨y1, y2⟩ := y; simp
        · refine BW.br rfl rfl (by first | omega | decide | (constructor <;> first | omega | decide)) (fun w => by first | (exfalso; omega) | exact absurd w (by decide)) (fun w => ?_)
          (repeat (refine BW.pl rfl rfl ?_))
          refine BW.aret rfl rfl (RdZ.go (v := acc ++ [v]) (l1 := l4) (by rw [hsp, pInners_e e4 z]) (by omega) (hA2.f2 hB (fun _ => rfl) (fun z => absurd hqz z)) (by omega) h6 ⟨q, rfl, hqz, _, cap', hq5, hE5.mono (F' := Nu S) (fun k hk => hA2.nil hk)⟩)
      · rintro f S4 r S' ⟨e4, hF4, hT4⟩
        refine RdZ.fl (f := f) ?_ (hA2.f2 (hB.f1 hF4 (fun _ => Or.inl rfl)) (fun _ => rfl) (fun z => absurd hqz z)) (by omega) hT4
        rw [hsp, pInners_f e4]
  exact loop K l [] S2 [] 0 0 hK h hq2 Els.nil Fr.rf (by omega) (by simp) (by simp) (by cases pInners K l <;> rfl)
end OJ
