-- C
set_option maxRecDepth 100000
/-! THE READER: what is in g, G and a block; orders -/
def inX (c : Int) (l : List Int) : PR (SPat × List SOrd0) :=
  if c = 123 then (match pInners (l.length + 1) l with
    | .inl f => .inl f
    | .inr (l2, os) => if hd l2 = 125 then .inr (l2.tail, noPat, os) else .inl l2)
  else if hd l = 47 then (match patR 47 l.tail with
    | .inl f => .inl f
    | .inr (l2, _, pt) => if hd l2 = 123 then (match pInners (l2.tail.length + 1) l2.tail with
        | .inl f => .inl f
        | .inr (l3, os) => if hd l3 = 125 then .inr (l3.tail, pt, os) else .inl l3)
      else match pInner l2 with
        | .inl f => .inl f
        | .inr (l3, o) => .inr (l3, pt, [o]))
  else .inl l
section IN
variable {d i a n q x b m c0 c1 p : Nat} {b1 kd c iv : Int} {M : GMeth} {ls : GL} {st : List GV} {s l l1 l2 l3 f acc : List Int} {S S0 S1 S' : BS} {F F' W : Nat → Prop} {Q : GO → BS → Prop} {y : Option Nat} {o : SOrd0} {r : Option Nat} {pt : SPat} {LL : List Nat} {w : Bool × Option SAdr × Option SAdr} {inner : Bool} {xs : List (Option Nat)} {os : List SOrd0} {z : Prop}
/-- from pc 12 on -/
theorem inTail (h : RdAt S1 n s l1) (hm : Ob S1 m (oOwn 7)) (h48 : Fi S1 48 m c) (hc : c = 123 ∨ c = 103 ∨ c = 71) (h32 : ∀ x ∈ s, 32 ≤ x) (hl : l1.length ≤ 70) (hT : S1.2.2.2 < 250000000)
    (k : ∀ l3 os S' q c', (if c = 123 then (match pInners (l1.length + 1) l1 with | .inl f => .inl f | .inr (l2, os) => if hd l2 = 125 then .inr (l2.tail, os) else .inl l2) else if hd l1 = 123 then (match pInners (l1.tail.length + 1) l1.tail with | .inl f => .inl f | .inr (l2, os) => if hd l2 = 125 then .inr (l2.tail, os) else .inl l2) else match pInner l1 with | .inl f => .inl f | .inr (l2, o) => .inr (l2, [o]) : PR (List SOrd0)) = .inr (l3, os) → l3.length < l1.length → RdAt S' n s l3 → Ob S' m (oOwn 7) → Fe S' 56 m (some q) → OrIn S' (Nu S1) True q os → FlK S1 S' m [56] → Fr S1 S' (fun k => k = n ∨ k = m) c' → c' ≤ 2700 * (l1.length - l3.length) + 150 → BW (d + 16) gm_X3_inner 41 [some (aR n), some (aR m)] [] S' Q)
    (kx : ∀ f S2 r S' c', (if c = 123 then (match pInners (l1.length + 1) l1 with | .inl f => .inl f | .inr (l2, os) => if hd l2 = 125 then .inr (l2.tail, os) else .inl l2) else if hd l1 = 123 then (match pInners (l1.tail.length + 1) l1.tail with | .inl f => .inl f | .inr (l2, os) => if hd l2 = 125 then .inr (l2.tail, os) else .inl l2) else match pInner l1 with | .inl f => .inl f | .inr (l2, o) => .inr (l2, [o]) : PR (List SOrd0)) = .inl f → Fr S1 S2 (fun k => k = n ∨ k = m) c' → c' ≤ 2700 * l1.length + 30200 → Thr9 5 42 ((s.length : Int) - f.length) S2 r S' → Q r S') : BW (d + 16) gm_X3_inner 12 [some (aR n), some (aR m)] [] S1 Q := by
  have hn := h.ob
  have hA := Fr.rf (S := S1) (W := fun k => k = n ∨ k = m)
  have hK := FlK.rf (S := S1) (m := m) (LL := [56])
  have hGn : ¬ Nu S1 n := Nu.not hn (oNe rfl)
  have hGm : ¬ Nu S1 m := Nu.not hm (oNe rfl)
  -- a block's orders, from pc 20 on
  have blk : ∀ (l2 : List Int) (S2 : BS) (X : PR (List SOrd0)), l2.length ≤ l1.length → (match pInners (l2.length + 1) l2 with | .inl f => .inl f | .inr (l2, os) => if hd l2 = 125 then .inr (l2.tail, os) else .inl l2 : PR (List SOrd0)) = X → (if c = 123 then (match pInners (l1.length + 1) l1 with | .inl f => .inl f | .inr (l2, os) => if hd l2 = 125 then .inr (l2.tail, os) else .inl l2) else if hd l1 = 123 then (match pInners (l1.tail.length + 1) l1.tail with | .inl f => .inl f | .inr (l2, os) => if hd l2 = 125 then .inr (l2.tail, os) else .inl l2) else match pInner l1 with | .inl f => .inl f | .inr (l2, o) => .inr (l2, [o]) : PR (List SOrd0)) = X → RdAt S2 n s l2 → Ob S2 m (oOwn 7) → FlK S1 S2 m [56] → Fr S1 S2 (fun k => k = n ∨ k = m) 0 → BW (d + 16) gm_X3_inner 20 [some (aR n), some (aR m)] [] S2 Q := by
    intro l2 S2 X hl2 hX hX1 h2 hm2 hK hA
    have hn := h2.ob
    have hAu := hA.t
    (repeat (refine BW.pl rfl rfl ?_))
    refine CW.z2 rfl rfl (by first | exact Or.inl rfl | exact Or.inr (tagO (by assumption) (by rfl) (by rfl))) (by first | exact Or.inl (by decide) | exact Or.inr ⟨_, rfl, by assumption⟩) rfl rfl (C_ordersI (d := d) (K := l2.length + 1) (Nat.lt_succ_self _) h2 h32 (by omega) (by omega)) ?_ ?_
    · rintro l3 os w3 S3 ⟨e1, e2, hF3, h3, q, rfl, hq⟩
      rw [e1] at hX
      dsimp only at hX
      have hq := hq.mono (F' := Nu S1) (fun k hk => hA.nil hk)
      replace hK := hK.fr hF3 ⟨hm2.old (oNe rfl), (Sep.ne (hm2.ne hn (ownNe rfl)))⟩
      replace hm2 := hm2.fr hF3 ⟨oNe rfl, (Sep.ne (hm2.ne hn (ownNe rfl)))⟩
      replace hA := hA.f1 hF3 (fun _ => Or.inl rfl)
      have hn := h3.ob
      (repeat (refine BW.pl rfl rfl ?_))
      first | (refine CW.putr rfl rfl (by assumption) rfl (by decide) (fun S4 hP4 h56 => ?_)) | (refine CW.puti rfl (by assumption) rfl (by decide) (by first | exact Or.inl ⟨rfl, by first | omega | decide | (constructor <;> first | omega | decide)⟩ | exact Or.inr (Or.inl ⟨rfl, by first | omega | decide | (constructor <;> first | omega | decide)⟩) | exact Or.inr (Or.inr (Or.inl ⟨rfl, by first | omega | decide | (constructor <;> first | omega | decide)⟩)) | exact Or.inr (Or.inr (Or.inr ⟨rfl, by first | omega | decide | (constructor <;> first | omega | decide)⟩))) (fun S4 hP4 h56 => ?_))
      replace hK := hK.put hP4 (by decide)
      replace h3 := h3.pu hP4 (Or.inl ⟨Nat.ne_of_beq_eq_false rfl, Nat.ne_of_beq_eq_false rfl⟩)
      replace hq := hq.pu hP4 hGm
      replace hm2 := hm2.pu hP4 trivial
      replace hn := hn.pu hP4 trivial
      replace hA := hA.f1 hP4.fr (fun _ => Or.inr rfl)
      (repeat (refine BW.pl rfl rfl ?_))
      refine CW.r2 rfl rfl (by first | exact Or.inl rfl | exact Or.inr (tagO (by assumption) (by rfl) (by rfl))) (by first | exact Or.inl (by decide) | exact Or.inr ⟨_, rfl, by assumption⟩) rfl rfl (C_mustC (d := d + 10) h3 ⟨by decide, by decide⟩) ?_ ?_
      · rintro l4 v4 w4 S5 ⟨e4, e5, hF5, h5, rfl, hP5⟩
        have e6 : hd l3 = 125 ∧ l4 = l3.tail := by
          split at e4
          · rename_i z; cases e4; exact ⟨z, rfl⟩
          · cases e4
        obtain ⟨e6, rfl⟩ := e6
        rw [if_pos e6] at hX
        have hlt := tail_len (nil_hd e6 (by decide))
        replace hK := hK.fr hP5.fr ⟨hm2.old (oNe rfl), Sep.ne (hm2.ne hn (ownNe rfl))⟩
        replace hq := hq.pu hP5 hGn
        replace h56 := h56.pu hP5 (Or.inl (Nat.ne_of_beq_eq_false rfl))
        replace hm2 := hm2.pu hP5 trivial
        replace hn := hn.pu hP5 trivial
        replace hA := hA.f1 hP5.fr (fun _ => Or.inl rfl)
        (repeat (refine BW.pl rfl rfl ?_))
        exact k l3.tail os S5 q _ (hX1.trans hX.symm) (by omega) h5 hm2 h56 hq hK hA (by omega)
      · rintro f S5 r S' ⟨e4, hF5, hT5⟩
        have e6 : hd l3 ≠ 125 ∧ f = l3 := by
          split at e4
          · cases e4
          · rename_i z; cases e4; exact ⟨z, rfl⟩
        rw [if_neg e6.1] at hX
        refine kx f S5 r S' _ ?_ (hA.f1 hF5 (fun _ => Or.inl rfl)) (by omega) hT5
        rw [hX1, ← hX, e6.2]
    · rintro f S3 r S' ⟨e1, hF3, hT3⟩
      rw [e1] at hX
      exact kx f S3 r S' _ (hX1.trans hX.symm) (hA.f1 hF3 (fun _ => Or.inl rfl)) (by omega) hT3
  (repeat (first | (refine BW.pl rfl rfl ?_) | (refine CW.geti rfl rfl (by assumption) rfl rfl (by assumption) (fun _ => ?_)) | (refine CW.getr rfl rfl (by assumption) rfl rfl (by assumption) ?_)))
  by_cases z1 : c = 123
  · refine BW.br rfl rfl (by first | omega | decide | (constructor <;> first | omega | decide)) (fun w1 => ?_) (fun w1 => by first | (exfalso; omega) | exact absurd w1 (by decide))
    exact blk l1 S1 _ (Nat.le_refl _) rfl (if_pos z1) h hm hK hA
  · have hs0 : ∀ X : PR (List SOrd0), (if c = 123 then X else if hd l1 = 123 then (match pInners (l1.tail.length + 1) l1.tail with | .inl f => .inl f | .inr (l2, os) => if hd l2 = 125 then .inr (l2.tail, os) else .inl l2) else match pInner l1 with | .inl f => .inl f | .inr (l2, o) => .inr (l2, [o]) : PR (List SOrd0)) = (if hd l1 = 123 then (match pInners (l1.tail.length + 1) l1.tail with | .inl f => .inl f | .inr (l2, os) => if hd l2 = 125 then .inr (l2.tail, os) else .inl l2) else match pInner l1 with | .inl f => .inl f | .inr (l2, o) => .inr (l2, [o]) : PR (List SOrd0)) := fun X => if_neg z1
    rw [hs0] at k kx
    refine BW.br rfl rfl (by first | omega | decide | (constructor <;> first | omega | decide)) (fun w1 => by first | (exfalso; omega) | exact absurd w1 (by decide)) (fun w1 => ?_)
    (repeat (refine BW.pl rfl rfl ?_))
    refine CW.c2 rfl rfl (by first | exact Or.inl rfl | exact Or.inr (tagO (by assumption) (by rfl) (by rfl))) (by first | exact Or.inl (by decide) | exact Or.inr ⟨_, rfl, by assumption⟩) rfl (C_passes (d := d + 10) h ⟨by decide, by decide⟩) ?_
    rintro r S2 ⟨hh2, hP2⟩
    replace hK := hK.fr hP2.fr ⟨hm.old (oNe rfl), Sep.ne (hm.ne hn (ownNe rfl))⟩
    replace h48 := h48.pu hP2 (Or.inl (Nat.ne_of_beq_eq_false rfl))
    replace hn := hn.pu hP2 trivial
    replace hm := hm.pu hP2 trivial
    replace hA := hA.f1 hP2.fr (fun _ => Or.inl rfl)
    rcases hh2 with ⟨z, rfl, h2⟩ | ⟨z, rfl, h2⟩
    · have hlt := tail_len (nil_hd z (by decide))
      refine BW.br rfl rfl (by first | omega | decide | (constructor <;> first | omega | decide)) (fun w2 => by first | (exfalso; omega) | exact absurd w2 (by decide)) (fun w2 => ?_)
      exact blk l1.tail S2 _ (by omega) rfl ((hs0 _).trans (if_pos z)) h2 hm hK hA
    · rw [if_neg z] at k kx
      refine BW.br rfl rfl (by first | omega | decide | (constructor <;> first | omega | decide)) (fun w2 => ?_) (fun w2 => by first | (exfalso; omega) | exact absurd w2 (by decide))
      (repeat (first | (refine BW.pl rfl rfl ?_) | (refine CW.geti rfl rfl (by assumption) rfl rfl (by assumption) (fun _ => ?_)) | (refine CW.getr rfl rfl (by assumption) rfl rfl (by assumption) ?_)))
      refine CW.newJ (L := 3) (c := 16) rfl rfl rfl (fun q S3 hN => ?_)
      have hqz := hA.nil hN.nil
      replace hK := hK.fr hN.fr ⟨hm.old (oNe rfl), Sep.no⟩
      replace h48 := h48.fr hN.fr ⟨⟨hm.old (oNe rfl), Nat.le_of_ble_eq_true rfl⟩, Sep.no⟩
      replace h2 := h2.fr hN.fr ⟨NoS.no, Sep.no⟩
      replace hn := hn.fr hN.fr ⟨oNe rfl, Sep.no⟩
      replace hm := hm.fr hN.fr ⟨oNe rfl, Sep.no⟩
      replace hA := hA.nw hN
      have hq := hN.ob
      have hqk := hN.1
      (repeat (refine BW.pl rfl rfl ?_))
      refine CW.c1 rfl rfl (by first | exact Or.inl rfl | exact Or.inr (tagO (by assumption) (by rfl) (by rfl))) (by first | exact Or.inl (by decide) | exact Or.inr ⟨_, rfl, by assumption⟩) rfl (C_alNew (d := d + 13) hq) ?_
      rintro r S4 ⟨rfl, hq4, hF4⟩
      replace hK := hK.fr hF4 ⟨hm.old (oNe rfl), (Sep.ne (hm.ne hq (oNe rfl)))⟩
      replace h48 := h48.fr hF4 ⟨⟨hm.old (oNe rfl), Nat.le_of_ble_eq_true rfl⟩, (Sep.ne (hm.ne hq (oNe rfl)))⟩
      replace h2 := h2.fr hF4 ⟨(NoS.one hq rfl), (Sep.ne (hn.ne hq (oNe rfl)))⟩
      replace hn := hn.fr hF4 ⟨oNe rfl, (Sep.ne (hn.ne hq (oNe rfl)))⟩
      replace hm := hm.fr hF4 ⟨oNe rfl, (Sep.ne (hm.ne hq (oNe rfl)))⟩
      replace hA := hA.f1 hF4 (fun z => absurd hqz z)
      (repeat (refine BW.pl rfl rfl ?_))
      first | (refine CW.putr rfl rfl (by assumption) rfl (by decide) (fun S5 hP5 h56 => ?_)) | (refine CW.puti rfl (by assumption) rfl (by decide) (by first | exact Or.inl ⟨rfl, by first | omega | decide | (constructor <;> first | omega | decide)⟩ | exact Or.inr (Or.inl ⟨rfl, by first | omega | decide | (constructor <;> first | omega | decide)⟩) | exact Or.inr (Or.inr (Or.inl ⟨rfl, by first | omega | decide | (constructor <;> first | omega | decide)⟩)) | exact Or.inr (Or.inr (Or.inr ⟨rfl, by first | omega | decide | (constructor <;> first | omega | decide)⟩))) (fun S5 hP5 h56 => ?_))
      replace hK := hK.put hP5 (by decide)
      replace h48 := h48.pu hP5 (Or.inl (Nat.ne_of_beq_eq_false rfl))
      replace h2 := h2.pu hP5 (Or.inl ⟨Nat.ne_of_beq_eq_false rfl, Nat.ne_of_beq_eq_false rfl⟩)
      replace hn := hn.pu hP5 trivial
      replace hm := hm.pu hP5 trivial
      replace hq4 := hq4.pu hP5 trivial
      replace hA := hA.f1 hP5.fr (fun _ => Or.inr rfl)
      have hAu := hA.t
      have hGq5 : ¬ Nu S5 q := Nu.not hq4 (oNe rfl)
      have hGn5 : ¬ Nu S5 n := Nu.not hn (oNe rfl)
      have hA5 := hA
      (repeat (first | (refine BW.pl rfl rfl ?_) | (refine CW.geti rfl rfl (by assumption) rfl rfl (by assumption) (fun _ => ?_)) | (refine CW.getr rfl rfl (by assumption) rfl rfl (by assumption) ?_)))
      (repeat (refine BW.pl rfl rfl ?_))
      refine CW.z2 rfl rfl (by first | exact Or.inl rfl | exact Or.inr (tagO (by assumption) (by rfl) (by rfl))) (by first | exact Or.inl (by decide) | exact Or.inr ⟨_, rfl, by assumption⟩) rfl rfl (C_orderI (d := d + 1) h2 h32 (by omega) (by omega)) ?_ ?_
      · rintro l3 o w3 S6 ⟨e1, e2, hF6, h6, mm, rfl, ho⟩
        rw [e1] at k
        replace hK := hK.fr hF6 ⟨hm.old (oNe rfl), (Sep.ne (hm.ne hn (ownNe rfl)))⟩
        replace h48 := h48.fr hF6 ⟨⟨hm.old (oNe rfl), Nat.le_of_ble_eq_true rfl⟩, (Sep.ne (hm.ne hn (ownNe rfl)))⟩
        replace h56 := h56.fr hF6 ⟨⟨hm.old (oNe rfl), Nat.le_of_ble_eq_true rfl⟩, (Sep.ne (hm.ne hn (ownNe rfl)))⟩
        replace hm := hm.fr hF6 ⟨oNe rfl, (Sep.ne (hm.ne hn (ownNe rfl)))⟩
        replace hq4 := hq4.fr hF6 ⟨oNe rfl, (Sep.ne (hq4.ne hn (oNe rfl)))⟩
        replace hA := hA.f1 hF6 (fun _ => Or.inl rfl)
        have hn := h6.ob
        have hv := vOk_o ho.1.2.1 rfl
        have hAv := hA.t
        refine CW.c2 rfl rfl (by first | exact Or.inl rfl | exact Or.inr (tagO (by assumption) (by rfl) (by rfl))) (by first | exact Or.inl (by decide) | exact Or.inr ⟨_, rfl, by assumption⟩) rfl (C_alAdd (d := d + 10) hq4 hv (by simp) (by omega)) ?_
        rintro r S7 ⟨rfl, cap', hq7, hF7, hc1, hc2⟩
        replace hK := hK.fr hF7 ⟨hm.old (oNe rfl), (Sep.ne (hm.ne hq4 (oNe rfl)))⟩
        replace h48 := h48.fr hF7 ⟨⟨hm.old (oNe rfl), Nat.le_of_ble_eq_true rfl⟩, (Sep.ne (hm.ne hq4 (oNe rfl)))⟩
        replace h56 := h56.fr hF7 ⟨⟨hm.old (oNe rfl), Nat.le_of_ble_eq_true rfl⟩, (Sep.ne (hm.ne hq4 (oNe rfl)))⟩
        replace h6 := h6.fr hF7 ⟨(NoS.one hq4 rfl), (Sep.ne (hn.ne hq4 (oNe rfl)))⟩
        replace ho := ho.fr hF7 ⟨(NoS.one hq4 rfl), (Av.ne hGq5)⟩
        replace hm := hm.fr hF7 ⟨oNe rfl, (Sep.ne (hm.ne hq4 (oNe rfl)))⟩
        replace hn := hn.fr hF7 ⟨oNe rfl, (Sep.ne (hn.ne hq4 (oNe rfl)))⟩
        replace hA := hA.f1 hF7 (fun z => absurd hqz z)
        (repeat (refine BW.pl rfl rfl ?_))
        have hcc : cap' ≤ 12 := by simp at hc2; omega
        exact k l3 [o] S7 q _ rfl e2 h6 hm h56 ⟨hqz, _, cap', hq7, Els.app Els.nil (ho.mono (F' := Nu S1) (fun k hk => hA5.nil hk)) (fun i hi => absurd hi (Nat.not_lt_zero i))⟩ hK hA (by omega)
      · rintro f S6 r S' ⟨e1, hF6, hT6⟩
        rw [e1] at kx
        exact kx f S6 r S' _ rfl (hA.f1 hF6 (fun _ => Or.inl rfl)) (by omega) hT6
theorem C_inner (h : RdAt S n s l) (hm : Ob S m (oOwn 7)) (h48 : Fi S 48 m c) (hc : c = 123 ∨ c = 103 ∨ c = 71) (h52 : Fe S 52 m none) (h32 : ∀ x ∈ s, 32 ≤ x) (hl : l.length ≤ 70) (hT : S.2.2.2 < 240000000) : BM (d + 17) gk_X3_inner [aR n, aR m] S (RdZ 2700 n 500 s l S (fun k => k = n ∨ k = m) (inX c l) (fun v w S' => w = none ∧ Ob S' m (oOwn 7) ∧ (∃ r, Fe S' 52 m r ∧ (c = 103 ∨ c = 71 → ∃ p, r = some p ∧ PatIs S' (Nu S) p v.1)) ∧ (∃ q, Fe S' 56 m (some q) ∧ OrIn S' (Nu S) True q v.2) ∧ FlK S S' m [52, 56])) := by
  have hn := h.ob
  have hA := Fr.rf (S := S) (W := fun k => k = n ∨ k = m)
  have hK := FlK.rf (S := S) (m := m) (LL := [52, 56])
  have hGn : ¬ Nu S n := Nu.not hn (oNe rfl)
  have hGm : ¬ Nu S m := Nu.not hm (oNe rfl)
  refine BM.of rfl rfl rfl ?_
  (repeat (first | (refine BW.pl rfl rfl ?_) | (refine CW.geti rfl rfl (by assumption) rfl rfl (by assumption) (fun _ => ?_)) | (refine CW.getr rfl rfl (by assumption) rfl rfl (by assumption) ?_)))
  by_cases z1 : c = 123
  · have e0 : inX c l = match pInners (l.length + 1) l with
        | .inl f => .inl f
        | .inr (l2, os) => if hd l2 = 125 then .inr (l2.tail, noPat, os) else .inl l2 := if_pos z1
    refine BW.br rfl rfl (by first | omega | decide | (constructor <;> first | omega | decide)) (fun w1 => ?_) (fun w1 => by first | (exfalso; omega) | exact absurd w1 (by decide))
    refine inTail (d := d) h hm h48 hc h32 hl (by omega) (fun l3 os S' q c' e1 e2 h3 hm3 h56 hq hK3 hF3 hc3 => ?_) (fun f S2 r S' c' e1 hF2 hc2 hT2 => ?_)
    · rw [if_pos z1] at e1
      have e3 : inX c l = .inr (l3, noPat, os) := by
        rw [e0]
        cases e : pInners (l.length + 1) l with
        | inl f => rw [e] at e1; cases e1
        | inr y =>
          obtain ⟨l4, os4⟩ := y
          rw [e] at e1
          dsimp only at e1 ⊢
          by_cases z : hd l4 = 125
          · rw [if_pos z] at e1 ⊢; cases e1; rfl
          · rw [if_neg z] at e1; cases e1
      exact BW.ret rfl rfl (RdZ.go e3 e2 hF3 (by omega) h3 ⟨rfl, hm3, ⟨none, hK3.fe h52 ⟨by decide, by decide⟩, fun z => by omega⟩, ⟨q, h56, hq⟩, hK3.mono (by decide)⟩)
    · rw [if_pos z1] at e1
      have e3 : inX c l = .inl f := by
        rw [e0]
        cases e : pInners (l.length + 1) l with
        | inl f => rw [e] at e1; cases e1; rfl
        | inr y =>
          obtain ⟨l4, os4⟩ := y
          rw [e] at e1
          dsimp only at e1 ⊢
          by_cases z : hd l4 = 125
          · rw [if_pos z] at e1; cases e1
          · rw [if_neg z] at e1 ⊢; cases e1; rfl
      exact RdZ.fl e3 hF2 (by omega) hT2
  · have e0 : inX c l = if hd l = 47 then (match patR 47 l.tail with
        | .inl f => .inl f
        | .inr (l2, _, pt) => if hd l2 = 123 then (match pInners (l2.tail.length + 1) l2.tail with
            | .inl f => .inl f
            | .inr (l3, os) => if hd l3 = 125 then .inr (l3.tail, pt, os) else .inl l3)
          else match pInner l2 with
            | .inl f => .inl f
            | .inr (l3, o) => .inr (l3, pt, [o]))
      else .inl l := if_neg z1
    refine BW.br rfl rfl (by first | omega | decide | (constructor <;> first | omega | decide)) (fun w1 => by first | (exfalso; omega) | exact absurd w1 (by decide)) (fun w1 => ?_)
    (repeat (refine BW.pl rfl rfl ?_))
    refine CW.r2 rfl rfl (by first | exact Or.inl rfl | exact Or.inr (tagO (by assumption) (by rfl) (by rfl))) (by first | exact Or.inl (by decide) | exact Or.inr ⟨_, rfl, by assumption⟩) rfl rfl (C_mustC (d := d + 10) h ⟨by decide, by decide⟩) ?_ ?_
    · rintro l1 v1 w1 S1 ⟨e1, e2, hF1, h1, rfl, hP1⟩
      have e3 : hd l = 47 ∧ l1 = l.tail := by
        split at e1
        · rename_i z; cases e1; exact ⟨z, rfl⟩
        · cases e1
      obtain ⟨e3, rfl⟩ := e3
      have hlt := tail_len (nil_hd e3 (by decide))
      rw [if_pos e3] at e0
      replace hK := hK.fr hP1.fr ⟨hm.old (oNe rfl), Sep.ne (hm.ne hn (ownNe rfl))⟩
      replace h48 := h48.pu hP1 (Or.inl (Nat.ne_of_beq_eq_false rfl))
      replace h52 := h52.pu hP1 (Or.inl (Nat.ne_of_beq_eq_false rfl))
      replace hn := hn.pu hP1 trivial
      replace hm := hm.pu hP1 trivial
      replace hA := hA.f1 hP1.fr (fun _ => Or.inl rfl)
      have hAu := hA.t
      (repeat (refine BW.pl rfl rfl ?_))
      refine CW.r2 rfl rfl (by first | exact Or.inl rfl | exact Or.inr (tagO (by assumption) (by rfl) (by rfl))) (by first | exact Or.inl (by decide) | exact Or.inr ⟨_, rfl, by assumption⟩) rfl rfl (C_patternE (d := d + 4) h1 h32 ⟨by decide, by decide⟩ (by omega) (by omega)) ?_ ?_
      · rintro l2 ⟨c9, pt⟩ w2 S2 ⟨e4, e5, hF2, h2, p, rfl, hp2, h77⟩
        rw [e4] at e0
        dsimp only at e0
        have hp2 := hp2.mono (F' := Nu S) (fun k hk => hA.nil hk)
        replace hK := hK.fr hF2 ⟨hm.old (oNe rfl), (Sep.ne (hm.ne hn (ownNe rfl)))⟩
        replace h48 := h48.fr hF2 ⟨⟨hm.old (oNe rfl), Nat.le_of_ble_eq_true rfl⟩, (Sep.ne (hm.ne hn (ownNe rfl)))⟩
        replace h52 := h52.fr hF2 ⟨⟨hm.old (oNe rfl), Nat.le_of_ble_eq_true rfl⟩, (Sep.ne (hm.ne hn (ownNe rfl)))⟩
        replace hm := hm.fr hF2 ⟨oNe rfl, (Sep.ne (hm.ne hn (ownNe rfl)))⟩
        replace hA := hA.f1 hF2 (fun _ => Or.inl rfl)
        have hn := h2.ob
        (repeat (refine BW.pl rfl rfl ?_))
        first | (refine CW.putr rfl rfl (by assumption) rfl (by decide) (fun S3 hP3 h52 => ?_)) | (refine CW.puti rfl (by assumption) rfl (by decide) (by first | exact Or.inl ⟨rfl, by first | omega | decide | (constructor <;> first | omega | decide)⟩ | exact Or.inr (Or.inl ⟨rfl, by first | omega | decide | (constructor <;> first | omega | decide)⟩) | exact Or.inr (Or.inr (Or.inl ⟨rfl, by first | omega | decide | (constructor <;> first | omega | decide)⟩)) | exact Or.inr (Or.inr (Or.inr ⟨rfl, by first | omega | decide | (constructor <;> first | omega | decide)⟩))) (fun S3 hP3 h52 => ?_))
        replace hK := hK.put hP3 (by decide)
        replace h48 := h48.pu hP3 (Or.inl (Nat.ne_of_beq_eq_false rfl))
        replace h2 := h2.pu hP3 (Or.inl ⟨Nat.ne_of_beq_eq_false rfl, Nat.ne_of_beq_eq_false rfl⟩)
        replace hp2 := hp2.pu hP3 hGm
        replace hm := hm.pu hP3 trivial
        replace hn := hn.pu hP3 trivial
        replace hA := hA.f1 hP3.fr (fun _ => Or.inr rfl)
        have hAv := hA.t
        have hA3 := hA
        have hp3 := hp2.old
        have hHn : ¬ (Nu S n ∧ S3.1 n ≠ oNil) := fun z => hGn z.1
        have hHm : ¬ (Nu S m ∧ S3.1 m ≠ oNil) := fun z => hGm z.1
        refine inTail (d := d) h2 hm h48 hc h32 (by omega) (by omega) (fun l3 os S' q c' e6 e7 h3 hm3 h56 hq hK3 hF3 hc3 => ?_) (fun f S4 r S' c' e6 hF4 hc4 hT4 => ?_)
        · rw [if_neg z1] at e6
          have e8 : inX c l = .inr (l3, pt, os) := by
            rw [e0]
            by_cases z2 : hd l2 = 123
            · rw [if_pos z2] at e6 ⊢
              cases e : pInners (l2.tail.length + 1) l2.tail with
              | inl f => rw [e] at e6; cases e6
              | inr y =>
                obtain ⟨l4, os4⟩ := y
                rw [e] at e6
                dsimp only at e6 ⊢
                by_cases z : hd l4 = 125
                · rw [if_pos z] at e6 ⊢; cases e6; rfl
                · rw [if_neg z] at e6; cases e6
            · rw [if_neg z2] at e6 ⊢
              cases e : pInner l2 with
              | inl f => rw [e] at e6; cases e6
              | inr y => obtain ⟨l4, o4⟩ := y; rw [e] at e6; cases e6; rfl
          have hp4 := hp3.fr hF3 ⟨NoS.two (NoS.one hn rfl) (NoS.one hm rfl), Av.two (Av.ne hHn) (Av.ne hHm)⟩
          have h52 := hK3.fe h52 ⟨by decide, by decide⟩
          have hK5 : FlK S S' m [52, 56] := hK.tr (hK3.mono (by decide))
          exact BW.ret rfl rfl (RdZ.go e8 (by omega) (hA.f2 hF3 (fun _ => Or.inl rfl) (fun _ => Or.inr rfl)) (by omega) h3 ⟨rfl, hm3, ⟨some p, h52, fun _ => ⟨p, rfl, hp4.mono (fun k hk => hk.1)⟩⟩, ⟨q, h56, hq.mono (F' := Nu S) (fun k hk => hA3.nil hk)⟩, hK5⟩)
        · rw [if_neg z1] at e6
          have e8 : inX c l = .inl f := by
            rw [e0]
            by_cases z2 : hd l2 = 123
            · rw [if_pos z2] at e6 ⊢
              cases e : pInners (l2.tail.length + 1) l2.tail with
              | inl f => rw [e] at e6; cases e6; rfl
              | inr y =>
                obtain ⟨l4, os4⟩ := y
                rw [e] at e6
                dsimp only at e6 ⊢
                by_cases z : hd l4 = 125
                · rw [if_pos z] at e6; cases e6
                · rw [if_neg z] at e6 ⊢; cases e6; rfl
            · rw [if_neg z2] at e6 ⊢
              cases e : pInner l2 with
              | inl f => rw [e] at e6; cases e6; rfl
              | inr y => obtain ⟨l4, o4⟩ := y; rw [e] at e6; cases e6
          exact RdZ.fl e8 (hA.f2 hF4 (fun _ => Or.inl rfl) (fun _ => Or.inr rfl)) (by omega) hT4
      · rintro f S2 r S' ⟨e4, hF2, hT2⟩
        rw [e4] at e0
        exact RdZ.fl e0 (hA.f1 hF2 (fun _ => Or.inl rfl)) (by omega) hT2
    · rintro f S1 r S' ⟨e1, hF1, hT1⟩
      have e3 : hd l ≠ 47 ∧ f = l := by
        split at e1
        · cases e1
        · rename_i z; cases e1; exact ⟨z, rfl⟩
      rw [if_neg e3.1] at e0
      exact RdZ.fl e0 (hA.f1 hF1 (fun _ => Or.inl rfl)) (by omega) (by rw [← e3.2]; exact hT1)
end IN
