-- C
set_option maxRecDepth 100000
/-! THE READER: what stands behind an act -/
section BH
variable {d i a n q x b m c0 c1 : Nat} {b1 kd c : Int} {M : GMeth} {ls : GL} {st : List GV} {s l l1 l3 f acc : List Int} {S S0 S1 S' : BS} {F F' W : Nat → Prop} {Q : GO → BS → Prop} {y : Option Nat} {o : Obj} {r : Option Nat} {pt : SPat} {LL : List Nat}
theorem pTurn_is (h : hd l = 47) : pTurn l = match sgR 0 l.tail with
    | .inl f => .inl f
    | .inr (r, a) => match sgR a.length r with
      | .inl f => .inl f
      | .inr (r2, b) => .inr (r2, a, b) := by
  unfold pTurn sgR
  rw [if_pos h, if_pos rfl]
  dsimp only
  have tw := List.takeWhile_append_dropWhile (p := isChr) (l := l.tail)
  by_cases z : l.tail.takeWhile isChr = []
  · rw [if_pos z, if_neg (fun w => w.1 z)]
    rw [z, List.nil_append] at tw
    rw [tw]
  · rw [if_neg z]
    by_cases z2 : hd (l.tail.dropWhile isChr) = 47
    · rw [if_pos z2, if_pos (show l.tail.takeWhile isChr ≠ [] ∧ hd (l.tail.dropWhile isChr) = 47 from ⟨z, z2⟩)]
      dsimp only
      have z3 : ¬ (l.tail.takeWhile isChr).length = 0 := fun w => z (List.length_eq_zero_iff.mp w)
      rw [if_neg z3]
      by_cases z4 : (((l.tail.dropWhile isChr).tail.take (l.tail.takeWhile isChr).length).takeWhile isChr).length < (l.tail.takeWhile isChr).length
      · rw [if_pos z4, if_pos z4]
      · rw [if_neg z4, if_neg z4]
        by_cases z5 : hd ((l.tail.dropWhile isChr).tail.drop (l.tail.takeWhile isChr).length) = 47
        · rw [if_pos z5, if_pos z5]
        · rw [if_neg z5, if_neg z5]
    · rw [if_neg z2, if_neg (fun w => z2 w.2)]
theorem sgR_len {many : Nat} {a r : List Int} (h : sgR many l = .inr (r, a)) : a.length ≤ l.length := by
  have key : ∀ z : List Int, (z.takeWhile isChr).length ≤ z.length := fun z => (List.takeWhile_sublist isChr).length_le
  unfold sgR at h
  repeat' (split at h)
  all_goals first
    | (cases h; done)
    | (cases h; exact key _)
    | (cases h; have := key (l.take many); rw [List.length_take] at this; omega)
def isAcN (c : Int) : Prop := (c = 97 ∨ c = 105 ∨ c = 99) ∨ (c = 118 ∨ c = 62 ∨ c = 60 ∨ c = 111 ∨ c = 79) ∨ (c = 109 ∨ c = 116) ∨ c = 107 ∨ (c = 114 ∨ c = 119) ∨ c = 58 ∨ (c = 98 ∨ c = 84) ∨ c = 115 ∨ c = 122 ∨ (c = 100 ∨ c = 106 ∨ c = 108 ∨ c = 112 ∨ c = 61 ∨ c = 110 ∨ c = 104 ∨ c = 72 ∨ c = 117 ∨ c = 101 ∨ c = 113 ∨ c = 78)
theorem bh_set {F : Nat → Prop} (h49 : Fi S 49 m b1) (hq : Ob S q (oAl [] 0)) (h51 : Fe S 51 m none) (h52 : Fe S 52 m none) (h53 : Fe S 53 m none) (h54 : Fe S 54 m none) (h55 : Fi S 55 m 0) (hc : c ≠ 115 ∧ c ≠ 103 ∧ c ≠ 71 ∧ c ≠ 122) : BhIs S F m q c (b1, [], none, noPat, [], [], false) := ⟨h49, ⟨[], 0, hq, StrsIs.nil⟩, ⟨none, h51, rfl⟩, ⟨none, h52, fun y => by omega⟩, ⟨none, h53, fun y => by omega⟩, ⟨none, h54, fun y => by omega⟩, h55⟩
theorem C_behind (h : RdAt S n s l) (hm : Ob S m (oOwn 7)) (h48 : Fi S 48 m c) (hmq : Fe S 50 m (some q)) (hq : Ob S q (oAl [] 0)) (h49 : Fi S 49 m 0) (h51 : Fe S 51 m none) (h52 : Fe S 52 m none) (h53 : Fe S 53 m none) (h54 : Fe S 54 m none) (h55 : Fi S 55 m 0) (hc : isAcN c) (h32 : ∀ x ∈ s, 32 ≤ x) (hl : l.length ≤ 70) (hT : S.2.2.2 < 500000000) : BM (d + 14) gk_X3_behind [aR n, aR m] S (RdY n 1000 s l S (fun k => k = n ∨ k = m ∨ k = q) (bhR c l) (fun v w S' => w = none ∧ Ob S' m (oOwn 7) ∧ BhIs S' (Nu S) m q c v ∧ FlK S S' m [49, 51, 52, 53, 54, 55])) := by
  have hn := h.ob
  have hAt := h.at
  have hR := h.R
  have hK := FlK.rf (S := S) (m := m) (LL := [49, 51, 52, 53, 54, 55])
  have hA := Fr.rf (S := S) (W := fun k => k = n ∨ k = m ∨ k = q)
  refine BM.of rfl rfl rfl ?_
  (repeat (first | (refine BW.pl rfl rfl ?_) | (refine CW.geti rfl rfl (by assumption) rfl rfl (by assumption) (fun _ => ?_)) | (refine CW.getr rfl rfl (by assumption) rfl rfl (by assumption) ?_)))
  rcases hc with hc | hc | hc | hc | hc | hc | hc | hc | hc | hc
  · refine BW.sw (i' := 3) rfl rfl (by constructor <;> omega) (by rcases hc with rfl | rfl | rfl <;> rfl) ?_
    have e0 : bhR c l = match pRows l.length l with
      | .inl f => .inl f
      | .inr (l1, rs) => .inr (l1, 0, rs, none, noPat, [], [], false) := by
      unfold bhR; rw [if_pos hc]
      cases pRows l.length l <;> rfl
    (repeat (refine BW.pl rfl rfl ?_))
    refine CW.r2 rfl rfl (by first | exact Or.inl rfl | exact Or.inr (tagO (by assumption) (by rfl) (by rfl))) (by first | exact Or.inl (by decide) | exact Or.inr ⟨_, rfl, by assumption⟩) rfl rfl (C_rows (d := d + 5) h hm hmq hq (by omega) (by omega)) ?_ ?_
    · rintro l1 rs w1 S1 ⟨e1, e2, hF1, h1, rfl, xs, cap, hq1, hS1⟩
      rw [e1] at e0
      replace hK := hK.fr hF1 ⟨hm.old (oNe rfl), (Sep.two (Sep.ne (hm.ne hn (ownNe rfl))) (Sep.ne (hm.ne hq (oNe rfl))))⟩
      replace h48 := h48.fr hF1 ⟨⟨hm.old (oNe rfl), Nat.le_of_ble_eq_true rfl⟩, (Sep.two (Sep.ne (hm.ne hn (ownNe rfl))) (Sep.ne (hm.ne hq (oNe rfl))))⟩
      replace hmq := hmq.fr hF1 ⟨⟨hm.old (oNe rfl), Nat.le_of_ble_eq_true rfl⟩, (Sep.two (Sep.ne (hm.ne hn (ownNe rfl))) (Sep.ne (hm.ne hq (oNe rfl))))⟩
      replace h49 := h49.fr hF1 ⟨⟨hm.old (oNe rfl), Nat.le_of_ble_eq_true rfl⟩, (Sep.two (Sep.ne (hm.ne hn (ownNe rfl))) (Sep.ne (hm.ne hq (oNe rfl))))⟩
      replace h51 := h51.fr hF1 ⟨⟨hm.old (oNe rfl), Nat.le_of_ble_eq_true rfl⟩, (Sep.two (Sep.ne (hm.ne hn (ownNe rfl))) (Sep.ne (hm.ne hq (oNe rfl))))⟩
      replace h52 := h52.fr hF1 ⟨⟨hm.old (oNe rfl), Nat.le_of_ble_eq_true rfl⟩, (Sep.two (Sep.ne (hm.ne hn (ownNe rfl))) (Sep.ne (hm.ne hq (oNe rfl))))⟩
      replace h53 := h53.fr hF1 ⟨⟨hm.old (oNe rfl), Nat.le_of_ble_eq_true rfl⟩, (Sep.two (Sep.ne (hm.ne hn (ownNe rfl))) (Sep.ne (hm.ne hq (oNe rfl))))⟩
      replace h54 := h54.fr hF1 ⟨⟨hm.old (oNe rfl), Nat.le_of_ble_eq_true rfl⟩, (Sep.two (Sep.ne (hm.ne hn (ownNe rfl))) (Sep.ne (hm.ne hq (oNe rfl))))⟩
      replace h55 := h55.fr hF1 ⟨⟨hm.old (oNe rfl), Nat.le_of_ble_eq_true rfl⟩, (Sep.two (Sep.ne (hm.ne hn (ownNe rfl))) (Sep.ne (hm.ne hq (oNe rfl))))⟩
      replace hm := hm.fr hF1 ⟨oNe rfl, (Sep.two (Sep.ne (hm.ne hn (ownNe rfl))) (Sep.ne (hm.ne hq (oNe rfl))))⟩
      replace hA := hA.f2 hF1 (fun _ => Or.inl rfl) (fun _ => Or.inr (Or.inr rfl))
      (repeat (refine BW.pl rfl rfl ?_))
      exact BW.ret rfl rfl (RdY.go e0 e2 hA (by omega) h1 ⟨rfl, hm, ⟨h49, ⟨xs, cap, hq1, hS1⟩, ⟨none, h51, rfl⟩, ⟨none, h52, fun y => by omega⟩, ⟨none, h53, fun y => by omega⟩, ⟨none, h54, fun y => by omega⟩, h55⟩, hK⟩)
    · rintro f S1 r S' ⟨e1, hF1, hT1⟩
      rw [e1] at e0
      exact RdY.fl e0 (hA.f2 hF1 (fun _ => Or.inl rfl) (fun _ => Or.inr (Or.inr rfl))) (by omega) hT1
  · refine BW.sw (i' := 7) rfl rfl (by constructor <;> omega) (by rcases hc with rfl | rfl | rfl | rfl | rfl <;> rfl) ?_
    have e0 : bhR c l = match pNum l with
      | .inl f => .inl f
      | .inr (l1, v) => .inr (l1, v, [], none, noPat, [], [], false) := by
      unfold bhR; rw [if_neg (by omega), if_pos hc]
      cases pNum l <;> rfl
    (repeat (refine BW.pl rfl rfl ?_))
    refine CW.r1 rfl rfl (by first | exact Or.inl rfl | exact Or.inr (tagO (by assumption) (by rfl) (by rfl))) (by first | exact Or.inl (by decide) | exact Or.inr ⟨_, rfl, by assumption⟩) rfl rfl (C_number (d := d + 6) h) ?_ ?_
    · rintro l1 v w1 S1 ⟨e1, e2, hF1, h1, rfl, hP1⟩
      obtain ⟨x0, x1⟩ := pNum_R e1
      rw [e1] at e0
      replace hK := hK.fr hP1.fr ⟨hm.old (oNe rfl), Sep.ne (hm.ne hn (ownNe rfl))⟩
      replace h48 := h48.pu hP1 (Or.inl (Nat.ne_of_beq_eq_false rfl))
      replace hmq := hmq.pu hP1 (Or.inl (Nat.ne_of_beq_eq_false rfl))
      replace h49 := h49.pu hP1 (Or.inl (Nat.ne_of_beq_eq_false rfl))
      replace h51 := h51.pu hP1 (Or.inl (Nat.ne_of_beq_eq_false rfl))
      replace h52 := h52.pu hP1 (Or.inl (Nat.ne_of_beq_eq_false rfl))
      replace h53 := h53.pu hP1 (Or.inl (Nat.ne_of_beq_eq_false rfl))
      replace h54 := h54.pu hP1 (Or.inl (Nat.ne_of_beq_eq_false rfl))
      replace h55 := h55.pu hP1 (Or.inl (Nat.ne_of_beq_eq_false rfl))
      replace hn := hn.pu hP1 trivial
      replace hm := hm.pu hP1 trivial
      replace hq := hq.pu hP1 trivial
      replace hA := hA.f1 hP1.fr (fun _ => Or.inl rfl)
      (repeat (refine BW.pl rfl rfl ?_))
      first | (refine CW.putr rfl rfl (by assumption) rfl (by decide) (fun S2 hP2 h49 => ?_)) | (refine CW.puti rfl (by assumption) rfl (by decide) (by first | exact Or.inl ⟨rfl, by first | omega | decide | (constructor <;> first | omega | decide)⟩ | exact Or.inr (Or.inl ⟨rfl, by first | omega | decide | (constructor <;> first | omega | decide)⟩) | exact Or.inr (Or.inr (Or.inl ⟨rfl, by first | omega | decide | (constructor <;> first | omega | decide)⟩)) | exact Or.inr (Or.inr (Or.inr ⟨rfl, by first | omega | decide | (constructor <;> first | omega | decide)⟩))) (fun S2 hP2 h49 => ?_))
      replace hK := hK.put hP2 (by decide)
      replace h48 := h48.pu hP2 (Or.inl (Nat.ne_of_beq_eq_false rfl))
      replace hmq := hmq.pu hP2 (Or.inl (Nat.ne_of_beq_eq_false rfl))
      replace h51 := h51.pu hP2 (Or.inl (Nat.ne_of_beq_eq_false rfl))
      replace h52 := h52.pu hP2 (Or.inl (Nat.ne_of_beq_eq_false rfl))
      replace h53 := h53.pu hP2 (Or.inl (Nat.ne_of_beq_eq_false rfl))
      replace h54 := h54.pu hP2 (Or.inl (Nat.ne_of_beq_eq_false rfl))
      replace h55 := h55.pu hP2 (Or.inl (Nat.ne_of_beq_eq_false rfl))
      replace h1 := h1.pu hP2 (Or.inl ⟨Nat.ne_of_beq_eq_false rfl, Nat.ne_of_beq_eq_false rfl⟩)
      replace hn := hn.pu hP2 trivial
      replace hm := hm.pu hP2 trivial
      replace hq := hq.pu hP2 trivial
      replace hA := hA.f1 hP2.fr (fun _ => Or.inr (Or.inl rfl))
      (repeat (refine BW.pl rfl rfl ?_))
      exact BW.ret rfl rfl (RdY.go e0 e2 hA (by omega) h1 ⟨rfl, hm, bh_set h49 hq h51 h52 h53 h54 h55 (by omega), hK⟩)
    · rintro f S1 r S' ⟨e1, hF1, hT1⟩
      rw [e1] at e0
      exact RdY.fl e0 (hA.f1 hF1 (fun _ => Or.inl rfl)) (by omega) hT1
  · refine BW.sw (i' := 12) rfl rfl (by constructor <;> omega) (by rcases hc with rfl | rfl <;> rfl) ?_
    have e0 : bhR c l = match pAdr l with
      | .inl f => .inl f
      | .inr (l1, a) => .inr (l1, 0, [], some a, noPat, [], [], false) := by
      unfold bhR; rw [if_neg (by omega), if_neg (by omega), if_pos hc]
      cases pAdr l <;> rfl
    have hGm : ¬ Nu S m := Nu.not hm (oNe rfl)
    (repeat (refine BW.pl rfl rfl ?_))
    refine CW.r1 rfl rfl (by first | exact Or.inl rfl | exact Or.inr (tagO (by assumption) (by rfl) (by rfl))) (by first | exact Or.inl (by decide) | exact Or.inr ⟨_, rfl, by assumption⟩) rfl rfl (C_address (d := d) h h32 (by omega) (by omega)) ?_ ?_
    · rintro l1 v w1 S1 ⟨e1, e2, hF1, h1, a, rfl, ha⟩
      rw [e1] at e0
      replace hK := hK.fr hF1 ⟨hm.old (oNe rfl), (Sep.ne (hm.ne hn (ownNe rfl)))⟩
      replace h48 := h48.fr hF1 ⟨⟨hm.old (oNe rfl), Nat.le_of_ble_eq_true rfl⟩, (Sep.ne (hm.ne hn (ownNe rfl)))⟩
      replace hmq := hmq.fr hF1 ⟨⟨hm.old (oNe rfl), Nat.le_of_ble_eq_true rfl⟩, (Sep.ne (hm.ne hn (ownNe rfl)))⟩
      replace h49 := h49.fr hF1 ⟨⟨hm.old (oNe rfl), Nat.le_of_ble_eq_true rfl⟩, (Sep.ne (hm.ne hn (ownNe rfl)))⟩
      replace h51 := h51.fr hF1 ⟨⟨hm.old (oNe rfl), Nat.le_of_ble_eq_true rfl⟩, (Sep.ne (hm.ne hn (ownNe rfl)))⟩
      replace h52 := h52.fr hF1 ⟨⟨hm.old (oNe rfl), Nat.le_of_ble_eq_true rfl⟩, (Sep.ne (hm.ne hn (ownNe rfl)))⟩
      replace h53 := h53.fr hF1 ⟨⟨hm.old (oNe rfl), Nat.le_of_ble_eq_true rfl⟩, (Sep.ne (hm.ne hn (ownNe rfl)))⟩
      replace h54 := h54.fr hF1 ⟨⟨hm.old (oNe rfl), Nat.le_of_ble_eq_true rfl⟩, (Sep.ne (hm.ne hn (ownNe rfl)))⟩
      replace h55 := h55.fr hF1 ⟨⟨hm.old (oNe rfl), Nat.le_of_ble_eq_true rfl⟩, (Sep.ne (hm.ne hn (ownNe rfl)))⟩
      replace hm := hm.fr hF1 ⟨oNe rfl, (Sep.ne (hm.ne hn (ownNe rfl)))⟩
      replace hq := hq.fr hF1 ⟨oNe rfl, (Sep.ne (hq.ne hn (oNe rfl)))⟩
      replace hA := hA.f1 hF1 (fun _ => Or.inl rfl)
      have hn := h1.ob
      (repeat (refine BW.pl rfl rfl ?_))
      first | (refine CW.putr rfl rfl (by assumption) rfl (by decide) (fun S2 hP2 h51 => ?_)) | (refine CW.puti rfl (by assumption) rfl (by decide) (by first | exact Or.inl ⟨rfl, by first | omega | decide | (constructor <;> first | omega | decide)⟩ | exact Or.inr (Or.inl ⟨rfl, by first | omega | decide | (constructor <;> first | omega | decide)⟩) | exact Or.inr (Or.inr (Or.inl ⟨rfl, by first | omega | decide | (constructor <;> first | omega | decide)⟩)) | exact Or.inr (Or.inr (Or.inr ⟨rfl, by first | omega | decide | (constructor <;> first | omega | decide)⟩))) (fun S2 hP2 h51 => ?_))
      replace hK := hK.put hP2 (by decide)
      replace h48 := h48.pu hP2 (Or.inl (Nat.ne_of_beq_eq_false rfl))
      replace hmq := hmq.pu hP2 (Or.inl (Nat.ne_of_beq_eq_false rfl))
      replace h49 := h49.pu hP2 (Or.inl (Nat.ne_of_beq_eq_false rfl))
      replace h52 := h52.pu hP2 (Or.inl (Nat.ne_of_beq_eq_false rfl))
      replace h53 := h53.pu hP2 (Or.inl (Nat.ne_of_beq_eq_false rfl))
      replace h54 := h54.pu hP2 (Or.inl (Nat.ne_of_beq_eq_false rfl))
      replace h55 := h55.pu hP2 (Or.inl (Nat.ne_of_beq_eq_false rfl))
      replace h1 := h1.pu hP2 (Or.inl ⟨Nat.ne_of_beq_eq_false rfl, Nat.ne_of_beq_eq_false rfl⟩)
      replace ha := ha.pu hP2 hGm
      replace hm := hm.pu hP2 trivial
      replace hq := hq.pu hP2 trivial
      replace hn := hn.pu hP2 trivial
      replace hA := hA.f1 hP2.fr (fun _ => Or.inr (Or.inl rfl))
      (repeat (refine BW.pl rfl rfl ?_))
      exact BW.ret rfl rfl (RdY.go e0 e2 hA (by omega) h1 ⟨rfl, hm, ⟨h49, ⟨[], 0, hq, StrsIs.nil⟩, ⟨some a, h51, a, rfl, ha⟩, ⟨none, h52, fun y => by omega⟩, ⟨none, h53, fun y => by omega⟩, ⟨none, h54, fun y => by omega⟩, h55⟩, hK⟩)
    · rintro f S1 r S' ⟨e1, hF1, hT1⟩
      rw [e1] at e0
      exact RdY.fl e0 (hA.f1 hF1 (fun _ => Or.inl rfl)) (by omega) hT1
  · refine BW.sw (i' := 17) rfl rfl (by constructor <;> omega) (by subst hc; rfl) ?_
    have e0 : bhR c l = match leR 97 101 l with
      | .inl f => .inl f
      | .inr (l1, v) => .inr (l1, v, [], none, noPat, [], [], false) := by
      unfold bhR; rw [if_neg (by omega), if_neg (by omega), if_neg (by omega), if_pos hc]
      cases leR 97 101 l <;> rfl
    (repeat (refine BW.pl rfl rfl ?_))
    refine CW.r3 rfl rfl (by first | exact Or.inl rfl | exact Or.inr (tagO (by assumption) (by rfl) (by rfl))) (by first | exact Or.inl (by decide) | exact Or.inr ⟨_, rfl, by assumption⟩) rfl rfl (C_letter (d := d + 7) h ⟨by decide, by decide⟩ ⟨by decide, by decide⟩) ?_ ?_
    · rintro l1 v w1 S1 ⟨e1, e2, hF1, h1, rfl, hP1⟩
      have ev : 0 ≤ v ∧ v ≤ 60 := by
        split at e1
        · cases e1; omega
        · cases e1
      have e1 : leR 97 101 l = .inr (l1, v) := e1
      rw [e1] at e0
      replace hK := hK.fr hP1.fr ⟨hm.old (oNe rfl), Sep.ne (hm.ne hn (ownNe rfl))⟩
      replace h48 := h48.pu hP1 (Or.inl (Nat.ne_of_beq_eq_false rfl))
      replace hmq := hmq.pu hP1 (Or.inl (Nat.ne_of_beq_eq_false rfl))
      replace h49 := h49.pu hP1 (Or.inl (Nat.ne_of_beq_eq_false rfl))
      replace h51 := h51.pu hP1 (Or.inl (Nat.ne_of_beq_eq_false rfl))
      replace h52 := h52.pu hP1 (Or.inl (Nat.ne_of_beq_eq_false rfl))
      replace h53 := h53.pu hP1 (Or.inl (Nat.ne_of_beq_eq_false rfl))
      replace h54 := h54.pu hP1 (Or.inl (Nat.ne_of_beq_eq_false rfl))
      replace h55 := h55.pu hP1 (Or.inl (Nat.ne_of_beq_eq_false rfl))
      replace hn := hn.pu hP1 trivial
      replace hm := hm.pu hP1 trivial
      replace hq := hq.pu hP1 trivial
      replace hA := hA.f1 hP1.fr (fun _ => Or.inl rfl)
      (repeat (refine BW.pl rfl rfl ?_))
      first | (refine CW.putr rfl rfl (by assumption) rfl (by decide) (fun S2 hP2 h49 => ?_)) | (refine CW.puti rfl (by assumption) rfl (by decide) (by first | exact Or.inl ⟨rfl, by first | omega | decide | (constructor <;> first | omega | decide)⟩ | exact Or.inr (Or.inl ⟨rfl, by first | omega | decide | (constructor <;> first | omega | decide)⟩) | exact Or.inr (Or.inr (Or.inl ⟨rfl, by first | omega | decide | (constructor <;> first | omega | decide)⟩)) | exact Or.inr (Or.inr (Or.inr ⟨rfl, by first | omega | decide | (constructor <;> first | omega | decide)⟩))) (fun S2 hP2 h49 => ?_))
      replace hK := hK.put hP2 (by decide)
      replace h48 := h48.pu hP2 (Or.inl (Nat.ne_of_beq_eq_false rfl))
      replace hmq := hmq.pu hP2 (Or.inl (Nat.ne_of_beq_eq_false rfl))
      replace h51 := h51.pu hP2 (Or.inl (Nat.ne_of_beq_eq_false rfl))
      replace h52 := h52.pu hP2 (Or.inl (Nat.ne_of_beq_eq_false rfl))
      replace h53 := h53.pu hP2 (Or.inl (Nat.ne_of_beq_eq_false rfl))
      replace h54 := h54.pu hP2 (Or.inl (Nat.ne_of_beq_eq_false rfl))
      replace h55 := h55.pu hP2 (Or.inl (Nat.ne_of_beq_eq_false rfl))
      replace h1 := h1.pu hP2 (Or.inl ⟨Nat.ne_of_beq_eq_false rfl, Nat.ne_of_beq_eq_false rfl⟩)
      replace hn := hn.pu hP2 trivial
      replace hm := hm.pu hP2 trivial
      replace hq := hq.pu hP2 trivial
      replace hA := hA.f1 hP2.fr (fun _ => Or.inr (Or.inl rfl))
      (repeat (refine BW.pl rfl rfl ?_))
      exact BW.ret rfl rfl (RdY.go e0 e2 hA (by omega) h1 ⟨rfl, hm, bh_set h49 hq h51 h52 h53 h54 h55 (by omega), hK⟩)
    · rintro f S1 r S' ⟨e1, hF1, hT1⟩
      have e1 : leR 97 101 l = .inl f := e1
      rw [e1] at e0
      exact RdY.fl e0 (hA.f1 hF1 (fun _ => Or.inl rfl)) (by omega) hT1
  · refine BW.sw (i' := 24) rfl rfl (by constructor <;> omega) (by rcases hc with rfl | rfl <;> rfl) ?_
    have e0 : bhR c l = match leR 48 51 l with
      | .inl f => .inl f
      | .inr (l1, v) => .inr (l1, v, [], none, noPat, [], [], false) := by
      unfold bhR; rw [if_neg (by omega), if_neg (by omega), if_neg (by omega), if_neg (by omega), if_pos hc]
      cases leR 48 51 l <;> rfl
    (repeat (refine BW.pl rfl rfl ?_))
    refine CW.r3 rfl rfl (by first | exact Or.inl rfl | exact Or.inr (tagO (by assumption) (by rfl) (by rfl))) (by first | exact Or.inl (by decide) | exact Or.inr ⟨_, rfl, by assumption⟩) rfl rfl (C_letter (d := d + 7) h ⟨by decide, by decide⟩ ⟨by decide, by decide⟩) ?_ ?_
    · rintro l1 v w1 S1 ⟨e1, e2, hF1, h1, rfl, hP1⟩
      have ev : 0 ≤ v ∧ v ≤ 60 := by
        split at e1
        · cases e1; omega
        · cases e1
      have e1 : leR 48 51 l = .inr (l1, v) := e1
      rw [e1] at e0
      replace hK := hK.fr hP1.fr ⟨hm.old (oNe rfl), Sep.ne (hm.ne hn (ownNe rfl))⟩
      replace h48 := h48.pu hP1 (Or.inl (Nat.ne_of_beq_eq_false rfl))
      replace hmq := hmq.pu hP1 (Or.inl (Nat.ne_of_beq_eq_false rfl))
      replace h49 := h49.pu hP1 (Or.inl (Nat.ne_of_beq_eq_false rfl))
      replace h51 := h51.pu hP1 (Or.inl (Nat.ne_of_beq_eq_false rfl))
      replace h52 := h52.pu hP1 (Or.inl (Nat.ne_of_beq_eq_false rfl))
      replace h53 := h53.pu hP1 (Or.inl (Nat.ne_of_beq_eq_false rfl))
      replace h54 := h54.pu hP1 (Or.inl (Nat.ne_of_beq_eq_false rfl))
      replace h55 := h55.pu hP1 (Or.inl (Nat.ne_of_beq_eq_false rfl))
      replace hn := hn.pu hP1 trivial
      replace hm := hm.pu hP1 trivial
      replace hq := hq.pu hP1 trivial
      replace hA := hA.f1 hP1.fr (fun _ => Or.inl rfl)
      (repeat (refine BW.pl rfl rfl ?_))
      first | (refine CW.putr rfl rfl (by assumption) rfl (by decide) (fun S2 hP2 h49 => ?_)) | (refine CW.puti rfl (by assumption) rfl (by decide) (by first | exact Or.inl ⟨rfl, by first | omega | decide | (constructor <;> first | omega | decide)⟩ | exact Or.inr (Or.inl ⟨rfl, by first | omega | decide | (constructor <;> first | omega | decide)⟩) | exact Or.inr (Or.inr (Or.inl ⟨rfl, by first | omega | decide | (constructor <;> first | omega | decide)⟩)) | exact Or.inr (Or.inr (Or.inr ⟨rfl, by first | omega | decide | (constructor <;> first | omega | decide)⟩))) (fun S2 hP2 h49 => ?_))
      replace hK := hK.put hP2 (by decide)
      replace h48 := h48.pu hP2 (Or.inl (Nat.ne_of_beq_eq_false rfl))
      replace hmq := hmq.pu hP2 (Or.inl (Nat.ne_of_beq_eq_false rfl))
      replace h51 := h51.pu hP2 (Or.inl (Nat.ne_of_beq_eq_false rfl))
      replace h52 := h52.pu hP2 (Or.inl (Nat.ne_of_beq_eq_false rfl))
      replace h53 := h53.pu hP2 (Or.inl (Nat.ne_of_beq_eq_false rfl))
      replace h54 := h54.pu hP2 (Or.inl (Nat.ne_of_beq_eq_false rfl))
      replace h55 := h55.pu hP2 (Or.inl (Nat.ne_of_beq_eq_false rfl))
      replace h1 := h1.pu hP2 (Or.inl ⟨Nat.ne_of_beq_eq_false rfl, Nat.ne_of_beq_eq_false rfl⟩)
      replace hn := hn.pu hP2 trivial
      replace hm := hm.pu hP2 trivial
      replace hq := hq.pu hP2 trivial
      replace hA := hA.f1 hP2.fr (fun _ => Or.inr (Or.inl rfl))
      (repeat (refine BW.pl rfl rfl ?_))
      exact BW.ret rfl rfl (RdY.go e0 e2 hA (by omega) h1 ⟨rfl, hm, bh_set h49 hq h51 h52 h53 h54 h55 (by omega), hK⟩)
    · rintro f S1 r S' ⟨e1, hF1, hT1⟩
      have e1 : leR 48 51 l = .inl f := e1
      rw [e1] at e0
      exact RdY.fl e0 (hA.f1 hF1 (fun _ => Or.inl rfl)) (by omega) hT1
  · refine BW.sw (i' := 31) rfl rfl (by constructor <;> omega) (by subst hc; rfl) ?_
    have e0 : bhR c l = match leR 65 90 l with
      | .inl f => .inl f
      | .inr (l1, v) => .inr (l1, v, [], none, noPat, [], [], false) := by
      unfold bhR; rw [if_neg (by omega), if_neg (by omega), if_neg (by omega), if_neg (by omega), if_neg (by omega), if_pos hc]
      cases leR 65 90 l <;> rfl
    (repeat (refine BW.pl rfl rfl ?_))
    refine CW.r3 rfl rfl (by first | exact Or.inl rfl | exact Or.inr (tagO (by assumption) (by rfl) (by rfl))) (by first | exact Or.inl (by decide) | exact Or.inr ⟨_, rfl, by assumption⟩) rfl rfl (C_letter (d := d + 7) h ⟨by decide, by decide⟩ ⟨by decide, by decide⟩) ?_ ?_
    · rintro l1 v w1 S1 ⟨e1, e2, hF1, h1, rfl, hP1⟩
      have ev : 0 ≤ v ∧ v ≤ 60 := by
        split at e1
        · cases e1; omega
        · cases e1
      have e1 : leR 65 90 l = .inr (l1, v) := e1
      rw [e1] at e0
      replace hK := hK.fr hP1.fr ⟨hm.old (oNe rfl), Sep.ne (hm.ne hn (ownNe rfl))⟩
      replace h48 := h48.pu hP1 (Or.inl (Nat.ne_of_beq_eq_false rfl))
      replace hmq := hmq.pu hP1 (Or.inl (Nat.ne_of_beq_eq_false rfl))
      replace h49 := h49.pu hP1 (Or.inl (Nat.ne_of_beq_eq_false rfl))
      replace h51 := h51.pu hP1 (Or.inl (Nat.ne_of_beq_eq_false rfl))
      replace h52 := h52.pu hP1 (Or.inl (Nat.ne_of_beq_eq_false rfl))
      replace h53 := h53.pu hP1 (Or.inl (Nat.ne_of_beq_eq_false rfl))
      replace h54 := h54.pu hP1 (Or.inl (Nat.ne_of_beq_eq_false rfl))
      replace h55 := h55.pu hP1 (Or.inl (Nat.ne_of_beq_eq_false rfl))
      replace hn := hn.pu hP1 trivial
      replace hm := hm.pu hP1 trivial
      replace hq := hq.pu hP1 trivial
      replace hA := hA.f1 hP1.fr (fun _ => Or.inl rfl)
      (repeat (refine BW.pl rfl rfl ?_))
      first | (refine CW.putr rfl rfl (by assumption) rfl (by decide) (fun S2 hP2 h49 => ?_)) | (refine CW.puti rfl (by assumption) rfl (by decide) (by first | exact Or.inl ⟨rfl, by first | omega | decide | (constructor <;> first | omega | decide)⟩ | exact Or.inr (Or.inl ⟨rfl, by first | omega | decide | (constructor <;> first | omega | decide)⟩) | exact Or.inr (Or.inr (Or.inl ⟨rfl, by first | omega | decide | (constructor <;> first | omega | decide)⟩)) | exact Or.inr (Or.inr (Or.inr ⟨rfl, by first | omega | decide | (constructor <;> first | omega | decide)⟩))) (fun S2 hP2 h49 => ?_))
      replace hK := hK.put hP2 (by decide)
      replace h48 := h48.pu hP2 (Or.inl (Nat.ne_of_beq_eq_false rfl))
      replace hmq := hmq.pu hP2 (Or.inl (Nat.ne_of_beq_eq_false rfl))
      replace h51 := h51.pu hP2 (Or.inl (Nat.ne_of_beq_eq_false rfl))
      replace h52 := h52.pu hP2 (Or.inl (Nat.ne_of_beq_eq_false rfl))
      replace h53 := h53.pu hP2 (Or.inl (Nat.ne_of_beq_eq_false rfl))
      replace h54 := h54.pu hP2 (Or.inl (Nat.ne_of_beq_eq_false rfl))
      replace h55 := h55.pu hP2 (Or.inl (Nat.ne_of_beq_eq_false rfl))
      replace h1 := h1.pu hP2 (Or.inl ⟨Nat.ne_of_beq_eq_false rfl, Nat.ne_of_beq_eq_false rfl⟩)
      replace hn := hn.pu hP2 trivial
      replace hm := hm.pu hP2 trivial
      replace hq := hq.pu hP2 trivial
      replace hA := hA.f1 hP2.fr (fun _ => Or.inr (Or.inl rfl))
      (repeat (refine BW.pl rfl rfl ?_))
      exact BW.ret rfl rfl (RdY.go e0 e2 hA (by omega) h1 ⟨rfl, hm, bh_set h49 hq h51 h52 h53 h54 h55 (by omega), hK⟩)
    · rintro f S1 r S' ⟨e1, hF1, hT1⟩
      have e1 : leR 65 90 l = .inl f := e1
      rw [e1] at e0
      exact RdY.fl e0 (hA.f1 hF1 (fun _ => Or.inl rfl)) (by omega) hT1
  · refine BW.sw (i' := 38) rfl rfl (by constructor <;> omega) (by rcases hc with rfl | rfl <;> rfl) ?_
    have e0 : bhR c l = if isLab (hd l) = true then .inr (l.tail, hd l - 65, [], none, noPat, [], [], false) else .inr (l, -1, [], none, noPat, [], [], false) := by
      unfold bhR; rw [if_neg (by omega), if_neg (by omega), if_neg (by omega), if_neg (by omega), if_neg (by omega), if_neg (by omega), if_pos hc]
    (repeat (refine BW.pl rfl rfl ?_))
    refine CW.e1 rfl rfl (by first | exact Or.inl rfl | exact Or.inr (tagO (by assumption) (by rfl) (by rfl))) (by first | exact Or.inl (by decide) | exact Or.inr ⟨_, rfl, by assumption⟩) rfl (B_look (d := d + 8) h) ?_
    refine BW.i2l rfl (by omega) ?_
    (repeat (refine BW.pl rfl rfl ?_))
    refine CW.e3 rfl rfl (by first | exact Or.inl rfl | exact Or.inr (tagO (by assumption) (by rfl) (by rfl))) (by first | exact Or.inl (by decide) | exact Or.inr ⟨_, rfl, by assumption⟩) rfl (B_in (d := d + 12) (by omega) (by decide) (by decide)) ?_
    by_cases z : 65 ≤ lk l ∧ lk l ≤ 90
    · obtain ⟨y, l1, rfl⟩ : ∃ y l1, l = y :: l1 := by
        cases l with
        | nil => exact absurd z.1 (by decide)
        | cons y l1 => exact ⟨y, l1, rfl⟩
      have z1 : 65 ≤ y ∧ y ≤ 90 := z
      rw [if_pos z]
      rw [if_pos (show isLab (hd (y :: l1)) = true from decide_eq_true z)] at e0
      refine BW.br rfl rfl (by first | omega | decide | (constructor <;> first | omega | decide)) (fun w => by first | (exfalso; omega) | exact absurd w (by decide)) (fun w => ?_)
      (repeat (refine BW.pl rfl rfl ?_))
      refine CW.c1 rfl rfl (by first | exact Or.inl rfl | exact Or.inr (tagO (by assumption) (by rfl) (by rfl))) (by first | exact Or.inl (by decide) | exact Or.inr ⟨_, rfl, by assumption⟩) rfl (C_next (d := d + 8) h) ?_
      rintro r S1 ⟨rfl, hP1, h1⟩
      replace hK := hK.fr hP1.fr ⟨hm.old (oNe rfl), Sep.ne (hm.ne hn (ownNe rfl))⟩
      replace h48 := h48.pu hP1 (Or.inl (Nat.ne_of_beq_eq_false rfl))
      replace hmq := hmq.pu hP1 (Or.inl (Nat.ne_of_beq_eq_false rfl))
      replace h49 := h49.pu hP1 (Or.inl (Nat.ne_of_beq_eq_false rfl))
      replace h51 := h51.pu hP1 (Or.inl (Nat.ne_of_beq_eq_false rfl))
      replace h52 := h52.pu hP1 (Or.inl (Nat.ne_of_beq_eq_false rfl))
      replace h53 := h53.pu hP1 (Or.inl (Nat.ne_of_beq_eq_false rfl))
      replace h54 := h54.pu hP1 (Or.inl (Nat.ne_of_beq_eq_false rfl))
      replace h55 := h55.pu hP1 (Or.inl (Nat.ne_of_beq_eq_false rfl))
      replace hn := hn.pu hP1 trivial
      replace hm := hm.pu hP1 trivial
      replace hq := hq.pu hP1 trivial
      replace hA := hA.f1 hP1.fr (fun _ => Or.inl rfl)
      (repeat (refine BW.pl rfl rfl ?_))
      first | (refine CW.putr rfl rfl (by assumption) rfl (by decide) (fun S2 hP2 h49 => ?_)) | (refine CW.puti rfl (by assumption) rfl (by decide) (by first | exact Or.inl ⟨rfl, by first | omega | decide | (constructor <;> first | omega | decide)⟩ | exact Or.inr (Or.inl ⟨rfl, by first | omega | decide | (constructor <;> first | omega | decide)⟩) | exact Or.inr (Or.inr (Or.inl ⟨rfl, by first | omega | decide | (constructor <;> first | omega | decide)⟩)) | exact Or.inr (Or.inr (Or.inr ⟨rfl, by first | omega | decide | (constructor <;> first | omega | decide)⟩))) (fun S2 hP2 h49 => ?_))
      replace hK := hK.put hP2 (by decide)
      replace h48 := h48.pu hP2 (Or.inl (Nat.ne_of_beq_eq_false rfl))
      replace hmq := hmq.pu hP2 (Or.inl (Nat.ne_of_beq_eq_false rfl))
      replace h51 := h51.pu hP2 (Or.inl (Nat.ne_of_beq_eq_false rfl))
      replace h52 := h52.pu hP2 (Or.inl (Nat.ne_of_beq_eq_false rfl))
      replace h53 := h53.pu hP2 (Or.inl (Nat.ne_of_beq_eq_false rfl))
      replace h54 := h54.pu hP2 (Or.inl (Nat.ne_of_beq_eq_false rfl))
      replace h55 := h55.pu hP2 (Or.inl (Nat.ne_of_beq_eq_false rfl))
      replace h1 := h1.pu hP2 (Or.inl ⟨Nat.ne_of_beq_eq_false rfl, Nat.ne_of_beq_eq_false rfl⟩)
      replace hn := hn.pu hP2 trivial
      replace hm := hm.pu hP2 trivial
      replace hq := hq.pu hP2 trivial
      replace hA := hA.f1 hP2.fr (fun _ => Or.inr (Or.inl rfl))
      (repeat (refine BW.pl rfl rfl ?_))
      exact BW.ret rfl rfl (RdY.go e0 (by simp) hA (by omega) h1 ⟨rfl, hm, bh_set h49 hq h51 h52 h53 h54 h55 (by omega), hK⟩)
    · rw [if_neg z]
      rw [if_neg (fun w => z (by
        cases l with
        | nil => cases w
        | cons y l1 => exact of_decide_eq_true w))] at e0
      refine BW.br rfl rfl (by first | omega | decide | (constructor <;> first | omega | decide)) (fun w => ?_) (fun w => by first | (exfalso; omega) | exact absurd w (by decide))
      (repeat (refine BW.pl rfl rfl ?_))
      first | (refine CW.putr rfl rfl (by assumption) rfl (by decide) (fun S2 hP2 h49 => ?_)) | (refine CW.puti rfl (by assumption) rfl (by decide) (by first | exact Or.inl ⟨rfl, by first | omega | decide | (constructor <;> first | omega | decide)⟩ | exact Or.inr (Or.inl ⟨rfl, by first | omega | decide | (constructor <;> first | omega | decide)⟩) | exact Or.inr (Or.inr (Or.inl ⟨rfl, by first | omega | decide | (constructor <;> first | omega | decide)⟩)) | exact Or.inr (Or.inr (Or.inr ⟨rfl, by first | omega | decide | (constructor <;> first | omega | decide)⟩))) (fun S2 hP2 h49 => ?_))
      replace hK := hK.put hP2 (by decide)
      replace h48 := h48.pu hP2 (Or.inl (Nat.ne_of_beq_eq_false rfl))
      replace hmq := hmq.pu hP2 (Or.inl (Nat.ne_of_beq_eq_false rfl))
      replace h51 := h51.pu hP2 (Or.inl (Nat.ne_of_beq_eq_false rfl))
      replace h52 := h52.pu hP2 (Or.inl (Nat.ne_of_beq_eq_false rfl))
      replace h53 := h53.pu hP2 (Or.inl (Nat.ne_of_beq_eq_false rfl))
      replace h54 := h54.pu hP2 (Or.inl (Nat.ne_of_beq_eq_false rfl))
      replace h55 := h55.pu hP2 (Or.inl (Nat.ne_of_beq_eq_false rfl))
      replace h := h.pu hP2 (Or.inl ⟨Nat.ne_of_beq_eq_false rfl, Nat.ne_of_beq_eq_false rfl⟩)
      replace hn := hn.pu hP2 trivial
      replace hm := hm.pu hP2 trivial
      replace hq := hq.pu hP2 trivial
      replace hA := hA.f1 hP2.fr (fun _ => Or.inr (Or.inl rfl))
      (repeat (refine BW.pl rfl rfl ?_))
      exact BW.ret rfl rfl (RdY.go e0 (Nat.le_refl _) hA (by omega) h ⟨rfl, hm, bh_set h49 hq h51 h52 h53 h54 h55 (by omega), hK⟩)
  · refine BW.sw (i' := 54) rfl rfl (by constructor <;> omega) (by subst hc; rfl) ?_
    have e0 : bhR c l = match pRepl l with
      | .inl f => .inl f
      | .inr (l1, pt, pu, ea, nr) => .inr (l1, nr, [], none, pt, pu, [], ea) := by
      unfold bhR; rw [if_neg (by omega), if_neg (by omega), if_neg (by omega), if_neg (by omega), if_neg (by omega), if_neg (by omega), if_neg (by omega), if_pos hc]
      cases pRepl l <;> rfl
    (repeat (refine BW.pl rfl rfl ?_))
    refine CW.r2 rfl rfl (by first | exact Or.inl rfl | exact Or.inr (tagO (by assumption) (by rfl) (by rfl))) (by first | exact Or.inl (by decide) | exact Or.inr ⟨_, rfl, by assumption⟩) rfl rfl (C_replacing (d := d) h hm h32 hl (by omega)) ?_ ?_
    · rintro l1 ⟨pt, pu, ea, nr⟩ w1 S1 ⟨e1, e2, hF1, h1, rfl, hm1, ⟨p, g52, hp⟩, ⟨y, g53, hy⟩, g55, g49, hK1⟩
      rw [e1] at e0
      have g51 := hK1.fe h51 ⟨by decide, by decide⟩
      have g54 := hK1.fe h54 ⟨by decide, by decide⟩
      have hKK := hK.tr (hK1.mono (L2 := [49, 51, 52, 53, 54, 55]) (by decide))
      replace hq := hq.fr hF1 ⟨oNe rfl, (Sep.two (Sep.ne (hq.ne hn (oNe rfl))) (Sep.ne (hq.ne hm (oNe rfl))))⟩
      replace hA := hA.f2 hF1 (fun _ => Or.inl rfl) (fun _ => Or.inr (Or.inl rfl))
      (repeat (refine BW.pl rfl rfl ?_))
      exact BW.ret rfl rfl (RdY.go e0 e2 hA (by omega) h1 ⟨rfl, hm1, ⟨g49, ⟨[], 0, hq, StrsIs.nil⟩, ⟨none, g51, rfl⟩, ⟨some p, g52, fun _ => ⟨p, rfl, hp⟩⟩, ⟨some y, g53, fun _ => ⟨y, rfl, hy⟩⟩, ⟨none, g54, fun y => by omega⟩, g55⟩, hKK⟩)
    · rintro f S1 r S' ⟨e1, hF1, hT1⟩
      rw [e1] at e0
      exact RdY.fl e0 (hA.f2 hF1 (fun _ => Or.inl rfl) (fun _ => Or.inr (Or.inl rfl))) (by omega) hT1
  · refine BW.sw (i' := 58) rfl rfl (by constructor <;> omega) (by subst hc; rfl) ?_
    have e0 : bhR c l = match pTurn l with
      | .inl f => .inl f
      | .inr (l1, le, pu) => .inr (l1, 0, [], none, noPat, pu, le, false) := by
      unfold bhR; rw [if_neg (by omega), if_neg (by omega), if_neg (by omega), if_neg (by omega), if_neg (by omega), if_neg (by omega), if_neg (by omega), if_neg (by omega), if_pos hc]
      cases pTurn l <;> rfl
    (repeat (refine BW.pl rfl rfl ?_))
    refine CW.r2 rfl rfl (by first | exact Or.inl rfl | exact Or.inr (tagO (by assumption) (by rfl) (by rfl))) (by first | exact Or.inl (by decide) | exact Or.inr ⟨_, rfl, by assumption⟩) rfl rfl (C_mustC (d := d + 7) h ⟨by decide, by decide⟩) ?_ ?_
    · rintro l1 v1 w1 S1 ⟨e1, e2, hF1, h1, rfl, hP1⟩
      have e3 : hd l = 47 ∧ l1 = l.tail := by
        split at e1
        · rename_i z; cases e1; exact ⟨z, rfl⟩
        · cases e1
      obtain ⟨e3, rfl⟩ := e3
      rw [pTurn_is e3] at e0
      replace hK := hK.fr hP1.fr ⟨hm.old (oNe rfl), Sep.ne (hm.ne hn (ownNe rfl))⟩
      replace h48 := h48.pu hP1 (Or.inl (Nat.ne_of_beq_eq_false rfl))
      replace hmq := hmq.pu hP1 (Or.inl (Nat.ne_of_beq_eq_false rfl))
      replace h49 := h49.pu hP1 (Or.inl (Nat.ne_of_beq_eq_false rfl))
      replace h51 := h51.pu hP1 (Or.inl (Nat.ne_of_beq_eq_false rfl))
      replace h52 := h52.pu hP1 (Or.inl (Nat.ne_of_beq_eq_false rfl))
      replace h53 := h53.pu hP1 (Or.inl (Nat.ne_of_beq_eq_false rfl))
      replace h54 := h54.pu hP1 (Or.inl (Nat.ne_of_beq_eq_false rfl))
      replace h55 := h55.pu hP1 (Or.inl (Nat.ne_of_beq_eq_false rfl))
      replace hn := hn.pu hP1 trivial
      replace hm := hm.pu hP1 trivial
      replace hq := hq.pu hP1 trivial
      replace hA := hA.f1 hP1.fr (fun _ => Or.inl rfl)
      have hAu := hA.t
      (repeat (refine BW.pl rfl rfl ?_))
      refine CW.r2 rfl rfl (by first | exact Or.inl rfl | exact Or.inr (tagO (by assumption) (by rfl) (by rfl))) (by first | exact Or.inl (by decide) | exact Or.inr ⟨_, rfl, by assumption⟩) rfl rfl (C_signs (d := d + 5) (many := 0) h1 (by decide) (by omega) (by omega)) ?_ ?_
      · rintro l2 le w2 S2 ⟨e4, e5, hF2, h2, y, rfl, hy⟩
        rw [e4] at e0
        dsimp only at e0
        have hle := sgR_len e4
        replace hK := hK.fr hF2 ⟨hm.old (oNe rfl), (Sep.ne (hm.ne hn (ownNe rfl)))⟩
        replace h48 := h48.fr hF2 ⟨⟨hm.old (oNe rfl), Nat.le_of_ble_eq_true rfl⟩, (Sep.ne (hm.ne hn (ownNe rfl)))⟩
        replace hmq := hmq.fr hF2 ⟨⟨hm.old (oNe rfl), Nat.le_of_ble_eq_true rfl⟩, (Sep.ne (hm.ne hn (ownNe rfl)))⟩
        replace h49 := h49.fr hF2 ⟨⟨hm.old (oNe rfl), Nat.le_of_ble_eq_true rfl⟩, (Sep.ne (hm.ne hn (ownNe rfl)))⟩
        replace h51 := h51.fr hF2 ⟨⟨hm.old (oNe rfl), Nat.le_of_ble_eq_true rfl⟩, (Sep.ne (hm.ne hn (ownNe rfl)))⟩
        replace h52 := h52.fr hF2 ⟨⟨hm.old (oNe rfl), Nat.le_of_ble_eq_true rfl⟩, (Sep.ne (hm.ne hn (ownNe rfl)))⟩
        replace h53 := h53.fr hF2 ⟨⟨hm.old (oNe rfl), Nat.le_of_ble_eq_true rfl⟩, (Sep.ne (hm.ne hn (ownNe rfl)))⟩
        replace h54 := h54.fr hF2 ⟨⟨hm.old (oNe rfl), Nat.le_of_ble_eq_true rfl⟩, (Sep.ne (hm.ne hn (ownNe rfl)))⟩
        replace h55 := h55.fr hF2 ⟨⟨hm.old (oNe rfl), Nat.le_of_ble_eq_true rfl⟩, (Sep.ne (hm.ne hn (ownNe rfl)))⟩
        replace hm := hm.fr hF2 ⟨oNe rfl, (Sep.ne (hm.ne hn (ownNe rfl)))⟩
        replace hq := hq.fr hF2 ⟨oNe rfl, (Sep.ne (hq.ne hn (oNe rfl)))⟩
        replace hA := hA.f1 hF2 (fun _ => Or.inl rfl)
        have hn := h2.ob
        (repeat (refine BW.pl rfl rfl ?_))
        first | (refine CW.putr rfl rfl (by assumption) rfl (by decide) (fun S3 hP3 h54 => ?_)) | (refine CW.puti rfl (by assumption) rfl (by decide) (by first | exact Or.inl ⟨rfl, by first | omega | decide | (constructor <;> first | omega | decide)⟩ | exact Or.inr (Or.inl ⟨rfl, by first | omega | decide | (constructor <;> first | omega | decide)⟩) | exact Or.inr (Or.inr (Or.inl ⟨rfl, by first | omega | decide | (constructor <;> first | omega | decide)⟩)) | exact Or.inr (Or.inr (Or.inr ⟨rfl, by first | omega | decide | (constructor <;> first | omega | decide)⟩))) (fun S3 hP3 h54 => ?_))
        replace hK := hK.put hP3 (by decide)
        replace h48 := h48.pu hP3 (Or.inl (Nat.ne_of_beq_eq_false rfl))
        replace hmq := hmq.pu hP3 (Or.inl (Nat.ne_of_beq_eq_false rfl))
        replace h49 := h49.pu hP3 (Or.inl (Nat.ne_of_beq_eq_false rfl))
        replace h51 := h51.pu hP3 (Or.inl (Nat.ne_of_beq_eq_false rfl))
        replace h52 := h52.pu hP3 (Or.inl (Nat.ne_of_beq_eq_false rfl))
        replace h53 := h53.pu hP3 (Or.inl (Nat.ne_of_beq_eq_false rfl))
        replace h55 := h55.pu hP3 (Or.inl (Nat.ne_of_beq_eq_false rfl))
        replace h2 := h2.pu hP3 (Or.inl ⟨Nat.ne_of_beq_eq_false rfl, Nat.ne_of_beq_eq_false rfl⟩)
        replace hm := hm.pu hP3 trivial
        replace hq := hq.pu hP3 trivial
        replace hn := hn.pu hP3 trivial
        replace hy := hy.pu hP3 trivial
        replace hA := hA.f1 hP3.fr (fun _ => Or.inr (Or.inl rfl))
        (repeat (first | (refine BW.pl rfl rfl ?_) | (refine CW.geti rfl rfl (by assumption) rfl rfl (by assumption) (fun _ => ?_)) | (refine CW.getr rfl rfl (by assumption) rfl rfl (by assumption) ?_)))
        refine CW.e1 rfl rfl (by first | exact Or.inl rfl | exact Or.inr (tagO (by assumption) (by rfl) (by rfl))) (by first | exact Or.inl (by decide) | exact Or.inr ⟨_, rfl, by assumption⟩) rfl (B_slen (d := d + 11) hy) ?_
        have hAv := hA.t
        (repeat (refine BW.pl rfl rfl ?_))
        refine CW.r2 rfl rfl (by first | exact Or.inl rfl | exact Or.inr (tagO (by assumption) (by rfl) (by rfl))) (by first | exact Or.inl (by decide) | exact Or.inr ⟨_, rfl, by assumption⟩) rfl rfl (C_signs (d := d + 5) h2 (by omega) (by omega) (by omega)) ?_ ?_
        · rintro l3 pu w3 S4 ⟨e6, e7, hF4, h4, y2, rfl, hy2⟩
          rw [e6] at e0
          dsimp only at e0
          replace hK := hK.fr hF4 ⟨hm.old (oNe rfl), (Sep.ne (hm.ne hn (ownNe rfl)))⟩
          replace h48 := h48.fr hF4 ⟨⟨hm.old (oNe rfl), Nat.le_of_ble_eq_true rfl⟩, (Sep.ne (hm.ne hn (ownNe rfl)))⟩
          replace hmq := hmq.fr hF4 ⟨⟨hm.old (oNe rfl), Nat.le_of_ble_eq_true rfl⟩, (Sep.ne (hm.ne hn (ownNe rfl)))⟩
          replace h49 := h49.fr hF4 ⟨⟨hm.old (oNe rfl), Nat.le_of_ble_eq_true rfl⟩, (Sep.ne (hm.ne hn (ownNe rfl)))⟩
          replace h51 := h51.fr hF4 ⟨⟨hm.old (oNe rfl), Nat.le_of_ble_eq_true rfl⟩, (Sep.ne (hm.ne hn (ownNe rfl)))⟩
          replace h52 := h52.fr hF4 ⟨⟨hm.old (oNe rfl), Nat.le_of_ble_eq_true rfl⟩, (Sep.ne (hm.ne hn (ownNe rfl)))⟩
          replace h53 := h53.fr hF4 ⟨⟨hm.old (oNe rfl), Nat.le_of_ble_eq_true rfl⟩, (Sep.ne (hm.ne hn (ownNe rfl)))⟩
          replace h55 := h55.fr hF4 ⟨⟨hm.old (oNe rfl), Nat.le_of_ble_eq_true rfl⟩, (Sep.ne (hm.ne hn (ownNe rfl)))⟩
          replace h54 := h54.fr hF4 ⟨⟨hm.old (oNe rfl), Nat.le_of_ble_eq_true rfl⟩, (Sep.ne (hm.ne hn (ownNe rfl)))⟩
          replace hm := hm.fr hF4 ⟨oNe rfl, (Sep.ne (hm.ne hn (ownNe rfl)))⟩
          replace hq := hq.fr hF4 ⟨oNe rfl, (Sep.ne (hq.ne hn (oNe rfl)))⟩
          replace hy := hy.fr hF4 ⟨oNe rfl, (Sep.ne (hy.ne hn (oNe rfl)))⟩
          replace hA := hA.f1 hF4 (fun _ => Or.inl rfl)
          have hn := h4.ob
          (repeat (refine BW.pl rfl rfl ?_))
          first | (refine CW.putr rfl rfl (by assumption) rfl (by decide) (fun S5 hP5 h53 => ?_)) | (refine CW.puti rfl (by assumption) rfl (by decide) (by first | exact Or.inl ⟨rfl, by first | omega | decide | (constructor <;> first | omega | decide)⟩ | exact Or.inr (Or.inl ⟨rfl, by first | omega | decide | (constructor <;> first | omega | decide)⟩) | exact Or.inr (Or.inr (Or.inl ⟨rfl, by first | omega | decide | (constructor <;> first | omega | decide)⟩)) | exact Or.inr (Or.inr (Or.inr ⟨rfl, by first | omega | decide | (constructor <;> first | omega | decide)⟩))) (fun S5 hP5 h53 => ?_))
          replace hK := hK.put hP5 (by decide)
          replace h48 := h48.pu hP5 (Or.inl (Nat.ne_of_beq_eq_false rfl))
          replace hmq := hmq.pu hP5 (Or.inl (Nat.ne_of_beq_eq_false rfl))
          replace h49 := h49.pu hP5 (Or.inl (Nat.ne_of_beq_eq_false rfl))
          replace h51 := h51.pu hP5 (Or.inl (Nat.ne_of_beq_eq_false rfl))
          replace h52 := h52.pu hP5 (Or.inl (Nat.ne_of_beq_eq_false rfl))
          replace h55 := h55.pu hP5 (Or.inl (Nat.ne_of_beq_eq_false rfl))
          replace h54 := h54.pu hP5 (Or.inl (Nat.ne_of_beq_eq_false rfl))
          replace h4 := h4.pu hP5 (Or.inl ⟨Nat.ne_of_beq_eq_false rfl, Nat.ne_of_beq_eq_false rfl⟩)
          replace hm := hm.pu hP5 trivial
          replace hq := hq.pu hP5 trivial
          replace hy := hy.pu hP5 trivial
          replace hn := hn.pu hP5 trivial
          replace hy2 := hy2.pu hP5 trivial
          replace hA := hA.f1 hP5.fr (fun _ => Or.inr (Or.inl rfl))
          (repeat (refine BW.pl rfl rfl ?_))
          exact BW.ret rfl rfl (RdY.go e0 (by omega) hA (by omega) h4 ⟨rfl, hm, ⟨h49, ⟨[], 0, hq, StrsIs.nil⟩, ⟨none, h51, rfl⟩, ⟨none, h52, fun y => by omega⟩, ⟨some y2, h53, fun _ => ⟨y2, rfl, hy2⟩⟩, ⟨some y, h54, fun _ => ⟨y, rfl, hy⟩⟩, h55⟩, hK⟩)
        · rintro f S4 r S' ⟨e6, hF4, hT4⟩
          rw [e6] at e0
          exact RdY.fl e0 (hA.f1 hF4 (fun _ => Or.inl rfl)) (by omega) hT4
      · rintro f S2 r S' ⟨e4, hF2, hT2⟩
        rw [e4] at e0
        exact RdY.fl e0 (hA.f1 hF2 (fun _ => Or.inl rfl)) (by omega) hT2
    · rintro f S1 r S' ⟨e1, hF1, hT1⟩
      have e3 : ¬ hd l = 47 ∧ f = l := by
        split at e1
        · cases e1
        · rename_i z; cases e1; exact ⟨z, rfl⟩
      have e4 : pTurn l = .inl l := by
        unfold pTurn; rw [if_neg e3.1]
      rw [e4] at e0
      exact RdY.fl e0 (hA.f1 hF1 (fun _ => Or.inl rfl)) (by omega) (by rw [← e3.2]; exact hT1)
  · refine BW.sw (i' := 78) rfl rfl (by constructor <;> omega) (by rcases hc with rfl | rfl | rfl | rfl | rfl | rfl | rfl | rfl | rfl | rfl | rfl | rfl <;> rfl) ?_
    have e0 : bhR c l = .inr (l, bh0) := by
      unfold bhR; rw [if_neg (by omega), if_neg (by omega), if_neg (by omega), if_neg (by omega), if_neg (by omega), if_neg (by omega), if_neg (by omega), if_neg (by omega), if_neg (by omega)]
    exact BW.ret rfl rfl (RdY.go e0 (Nat.le_refl _) hA (by omega) h ⟨rfl, hm, bh_set h49 hq h51 h52 h53 h54 h55 (by omega), hK⟩)
end BH
