-- C
set_option maxRecDepth 100000
/-! THE READER: all orders; a text's orders -/
def noOrd : SOrd := (noOrd0, [])
def OrdEls (S : BS) (F : Nat → Prop) (z : Prop) (xs : List (Option Nat)) (os : List SOrd) : Prop := Els (OrdIs S F z) noOrd xs os
def OrsIs (S : BS) (F : Nat → Prop) (z : Prop) (q : Nat) (os : List SOrd) : Prop := F q ∧ ∃ xs cap, Ob S q (oAl xs cap) ∧ OrdEls S F z xs os
/-- orders in a list, no two with an object in common -/
def OrdD (S : BS) (F : Nat → Prop) (z : Prop) (xs : List (Option Nat)) (os : List SOrd) : Prop := xs.length = os.length ∧ ∃ G : Nat → Nat → Prop, (∀ j, j < os.length → ∃ k, xs.getD j none = some k ∧ OrdIs S (G j) z k (os.getD j noOrd)) ∧ (∀ j m, G j m → F m) ∧ ∀ i j m, i < j → j < os.length → G i m → ¬ G j m
def OrsD (S : BS) (F : Nat → Prop) (z : Prop) (q : Nat) (os : List SOrd) : Prop := F q ∧ ∃ xs cap, Ob S q (oAl xs cap) ∧ OrdD S F z xs os
section AL
variable {d i a n q x b m c0 c1 p K N : Nat} {b1 kd c iv : Int} {M : GMeth} {ls : GL} {st : List GV} {s l l1 l2 l3 f acc : List Int} {S S0 S1 S' : BS} {F F' W : Nat → Prop} {Q : GO → BS → Prop} {y : Nat} {o : SOrd} {r : Option Nat} {pt : SPat} {LL : List Nat} {w : Bool × Option SAdr × Option SAdr} {inner : Bool} {xs : List (Option Nat)} {os : List SOrd} {z : Prop}
theorem OrdEls.fr (h : OrdEls S F z xs os) (hF : Fr S S' W c0) (hs : NoS S W ∧ Av F W) : OrdEls S' F z xs os := h.imp (fun _ _ hk => hk.fr hF hs)
theorem OrdEls.pu (h : OrdEls S F z xs os) (hP : Pu S S' a n) (hs : ¬ F n) : OrdEls S' F z xs os := h.imp (fun _ _ hk => hk.pu hP hs)
theorem OrdEls.mono (h : OrdEls S F z xs os) (hm : ∀ m, F m → F' m) : OrdEls S F' z xs os := h.imp (fun _ _ hk => hk.mono hm)
theorem OrsIs.fr (h : OrsIs S F z q os) (hF : Fr S S' W c0) (hs : NoS S W ∧ Av F W) : OrsIs S' F z q os := by
  obtain ⟨f, xs, cap, h1, h2⟩ := h
  exact ⟨f, xs, cap, h1.fr hF ⟨oNe rfl, hs.2.sp9 f⟩, h2.fr hF hs⟩
theorem OrsIs.pu (h : OrsIs S F z q os) (hP : Pu S S' a n) (hs : ¬ F n) : OrsIs S' F z q os := by
  obtain ⟨f, xs, cap, h1, h2⟩ := h
  exact ⟨f, xs, cap, h1.pu hP trivial, h2.pu hP hs⟩
theorem OrsIs.mono (h : OrsIs S F z q os) (hm : ∀ m, F m → F' m) : OrsIs S F' z q os := by
  obtain ⟨f, xs, cap, h1, h2⟩ := h
  exact ⟨hm _ f, xs, cap, h1, h2.mono hm⟩
theorem OrsIs.old (h : OrsIs S F z q os) : OrsIs S (fun k => F k ∧ S.1 k ≠ oNil) z q os := by
  obtain ⟨f, xs, cap, h1, h2⟩ := h
  exact ⟨⟨f, h1.old (oNe rfl)⟩, xs, cap, h1, h2.imp (fun _ _ hk => hk.old)⟩
theorem OrdD.nil : OrdD S F z [] [] := ⟨rfl, fun _ _ => False, fun j hj => absurd hj (Nat.not_lt_zero j), fun _ _ h => h.elim, fun _ _ _ _ _ h => h.elim⟩
theorem OrdD.fr (h : OrdD S F z xs os) (hF : Fr S S' W c0) (hs : NoS S W ∧ Av F W) : OrdD S' F z xs os := by
  obtain ⟨h1, G, h2, h3, h4⟩ := h
  exact ⟨h1, G, fun j hj => by
    obtain ⟨k, g1, g2⟩ := h2 j hj
    exact ⟨k, g1, g2.fr hF ⟨hs.1, fun m w g => hs.2 m w (h3 j m g)⟩⟩, h3, h4⟩
theorem OrdD.pu (h : OrdD S F z xs os) (hP : Pu S S' a n) (hs : ¬ F n) : OrdD S' F z xs os := by
  obtain ⟨h1, G, h2, h3, h4⟩ := h
  exact ⟨h1, G, fun j hj => by
    obtain ⟨k, g1, g2⟩ := h2 j hj
    exact ⟨k, g1, g2.pu hP (fun g => hs (h3 j n g))⟩, h3, h4⟩
theorem OrdD.mono (h : OrdD S F z xs os) (hm : ∀ m, F m → F' m) : OrdD S F' z xs os := by
  obtain ⟨h1, G, h2, h3, h4⟩ := h
  exact ⟨h1, G, h2, fun j m g => hm m (h3 j m g), h4⟩
theorem OrdD.old (h : OrdD S F z xs os) : OrdD S (fun k => F k ∧ S.1 k ≠ oNil) z xs os := by
  obtain ⟨h1, G, h2, h3, h4⟩ := h
  exact ⟨h1, fun j k => G j k ∧ S.1 k ≠ oNil, fun j hj => by
    obtain ⟨k, g1, g2⟩ := h2 j hj
    exact ⟨k, g1, g2.old⟩, fun j m g => ⟨h3 j m g.1, g.2⟩, fun i j m hij hj g g' => h4 i j m hij hj g.1 g'.1⟩
theorem OrdD.app {F1 : Nat → Prop} (h : OrdD S F z xs os) (hO : OrdIs S F1 z m o) (h1 : ∀ k, F1 k → F' k) (h2 : ∀ k, F k → F' k) (h3 : ∀ k, F k → ¬ F1 k) : OrdD S F' z (xs ++ [some m]) (os ++ [o]) := by
  obtain ⟨g1, G, g2, g3, g4⟩ := h
  have e1 : (os ++ [o]).length = os.length + 1 := by simp
  refine ⟨by simp [g1], fun j k => if j = os.length then F1 k else G j k, fun j hj => ?_, fun j k hk => ?_, fun i j k hij hj hi hj' => ?_⟩
  · rw [e1] at hj
    rw [getD_app xs (some m) none j (by omega), getD_app os o noOrd j hj, g1]
    by_cases e : j = os.length
    · rw [if_pos e, if_pos e]
      refine ⟨m, rfl, hO.mono (fun k hk => ?_)⟩
      show if j = os.length then F1 k else G j k
      rw [if_pos e]; exact hk
    · rw [if_neg e, if_neg e]
      obtain ⟨k', k1, k2⟩ := g2 j (by omega)
      refine ⟨k', k1, k2.mono (fun k hk => ?_)⟩
      show if j = os.length then F1 k else G j k
      rw [if_neg e]; exact hk
  · replace hk : if j = os.length then F1 k else G j k := hk
    by_cases e : j = os.length
    · rw [if_pos e] at hk; exact h1 k hk
    · rw [if_neg e] at hk; exact h2 k (g3 j k hk)
  · rw [e1] at hj
    replace hi : if i = os.length then F1 k else G i k := hi
    replace hj' : if j = os.length then F1 k else G j k := hj'
    rw [if_neg (by omega)] at hi
    by_cases e : j = os.length
    · rw [if_pos e] at hj'; exact h3 k (g3 i k hi) hj'
    · rw [if_neg e] at hj'; exact g4 i j k hij (by omega) hi hj'
theorem OrdD.els (h : OrdD S F z xs os) : OrdEls S F z xs os := by
  obtain ⟨h1, G, h2, h3, h4⟩ := h
  refine ⟨h1, fun j hj => ?_⟩
  obtain ⟨k, g1, g2⟩ := h2 j hj
  refine ⟨k, ⟨g1, fun i hi e => ?_⟩, g2.mono (h3 j)⟩
  obtain ⟨k', k1, k2⟩ := h2 i (by omega)
  rw [k1] at e; cases e
  exact h4 i j k hi hj k2.1.1 g2.1.1
theorem OrsD.fr (h : OrsD S F z q os) (hF : Fr S S' W c0) (hs : NoS S W ∧ Av F W) : OrsD S' F z q os := by
  obtain ⟨f, xs, cap, h1, h2⟩ := h
  exact ⟨f, xs, cap, h1.fr hF ⟨oNe rfl, hs.2.sp9 f⟩, h2.fr hF hs⟩
theorem OrsD.pu (h : OrsD S F z q os) (hP : Pu S S' a n) (hs : ¬ F n) : OrsD S' F z q os := by
  obtain ⟨f, xs, cap, h1, h2⟩ := h
  exact ⟨f, xs, cap, h1.pu hP trivial, h2.pu hP hs⟩
theorem OrsD.mono (h : OrsD S F z q os) (hm : ∀ m, F m → F' m) : OrsD S F' z q os := by
  obtain ⟨f, xs, cap, h1, h2⟩ := h
  exact ⟨hm _ f, xs, cap, h1, h2.mono hm⟩
theorem OrsD.old (h : OrsD S F z q os) : OrsD S (fun k => F k ∧ S.1 k ≠ oNil) z q os := by
  obtain ⟨f, xs, cap, h1, h2⟩ := h
  exact ⟨⟨f, h1.old (oNe rfl)⟩, xs, cap, h1, h2.old⟩
theorem OrsD.ors (h : OrsD S F z q os) : OrsIs S F z q os := by
  obtain ⟨f, xs, cap, h1, h2⟩ := h
  exact ⟨f, xs, cap, h1, h2.els⟩
theorem C_orders (hK : l.length ≤ K) (h : RdAt S n s l) (h32 : ∀ x ∈ s, 32 ≤ x) (hl : l.length ≤ 70) (hT : S.2.2.2 < 100000000) : BM (d + 20) gk_X3_orders [aR n, aI 0] S (RdZ 2800 n 100 s l S (fun k => k = n) (pOrders K l) (fun v w S' => ∃ q, w = vR (some q) ∧ OrsD S' (Nu S) True q v)) := by
  have hn := h.ob
  have hA := Fr.rf (S := S) (W := fun k => k = n)
  refine BM.of rfl rfl rfl ?_
  refine CW.newJ (L := 3) (c := 16) rfl rfl rfl (fun q S1 hN => ?_)
  have hqz := hA.nil hN.nil
  replace h := h.fr hN.fr ⟨NoS.no, Sep.no⟩
  replace hn := hn.fr hN.fr ⟨oNe rfl, Sep.no⟩
  replace hA := hA.nw hN
  have hq := hN.ob
  have hqk := hN.1
  (repeat (refine BW.pl rfl rfl ?_))
  refine CW.c1 rfl rfl (by first | exact Or.inl rfl | exact Or.inr (tagO (by assumption) (by rfl) (by rfl))) (by first | exact Or.inl (by decide) | exact Or.inr ⟨_, rfl, by assumption⟩) rfl (C_alNew (d := d + 16) hq) ?_
  rintro r S2 ⟨rfl, hq2, hF2⟩
  replace h := h.fr hF2 ⟨(NoS.one hq rfl), (Sep.ne (hn.ne hq (oNe rfl)))⟩
  replace hn := hn.fr hF2 ⟨oNe rfl, (Sep.ne (hn.ne hq (oNe rfl)))⟩
  replace hA := hA.f1 hF2 (fun z => absurd hqz z)
  have hA2 := hA
  have hGn : ¬ Nu S2 n := Nu.not hn (oNe rfl)
  have hGq : ¬ Nu S2 q := Nu.not hq2 (oNe rfl)
  (iterate 1 (refine BW.pl rfl rfl ?_))
  have loop : ∀ (N k : Nat) (l3 : List Int) (acc : List SOrd) (S3 : BS) (xs : List (Option Nat)) (cap c3 : Nat), l3.length < N → l3.length ≤ k → RdAt S3 n s l3 → Ob S3 q (oAl xs cap) → OrdD S3 (Nu S2) True xs acc → Fr S2 S3 (fun k => k = n ∨ k = q) c3 → c3 ≤ 2701 * (l.length - l3.length) + 6 * cap → cap ≤ 2 * acc.length + 10 → acc.length + l3.length ≤ l.length → (pOrders K l = match pOrders k l3 with
      | .inl f => .inl f
      | .inr (l1, os) => .inr (l1, acc ++ os)) → BW (d + 19) gm_X3_orders 4 [some (aR n), some (aI 0), some (aR q)] [] S3 (RdZ 2800 n 100 s l S (fun k => k = n) (pOrders K l) (fun v w S' => ∃ q, w = vR (some q) ∧ OrsD S' (Nu S) True q v)) := by
    intro N
    induction N with
    | zero => intro k l3 acc S3 xs cap c3 hk; exact absurd hk (Nat.not_lt_zero _)
    | succ N ih =>
      intro k l3 acc S3 xs cap c3 hN hk h3 hq3 hE hB hc3 hcap hacc hsp
      have hn := h3.ob
      have hAu := hA2.t
      have hBu := hB.t
      have hGq3 : ¬ Nu S3 q := Nu.not hq3 (oNe rfl)
      have hGn3 : ¬ Nu S3 n := Nu.not hn (oNe rfl)
      have hB3 := hB
      have hel := hE.1
      replace hE := hE.old
      have hGno : ¬ (Nu S2 n ∧ S3.1 n ≠ oNil) := fun z => hGn z.1
      have hGqo : ¬ (Nu S2 q ∧ S3.1 q ≠ oNil) := fun z => hGq z.1
      (repeat (refine BW.pl rfl rfl ?_))
      refine CW.z2 rfl rfl (by first | exact Or.inl rfl | exact Or.inr (tagO (by assumption) (by rfl) (by rfl))) (by first | exact Or.inl (by decide) | exact Or.inr ⟨_, rfl, by assumption⟩) rfl rfl (C_order (d := d) h3 h32 (by omega) (by omega)) ?_ ?_
      · rintro l4 v w4 S4 ⟨e4, e5, hF4, h4, m, rfl, hm4⟩
        replace hE := hE.fr hF4 ⟨(NoS.one hn rfl), (Av.ne hGno)⟩
        replace hq3 := hq3.fr hF4 ⟨oNe rfl, (Sep.ne (hq3.ne hn (oNe rfl)))⟩
        replace hB := hB.f1 hF4 (fun _ => Or.inl rfl)
        have hn := h4.ob
        have hBv := hB.t
        have hv := vOk_o hm4.1.2.1 rfl
        refine CW.c2 rfl rfl (by first | exact Or.inl rfl | exact Or.inr (tagO (by assumption) (by rfl) (by rfl))) (by first | exact Or.inl (by decide) | exact Or.inr ⟨_, rfl, by assumption⟩) rfl (C_alAdd (d := d + 13) hq3 hv (by omega) (by omega)) ?_
        rintro r S5 ⟨rfl, cap', hq5, hF5, hc1, hc2⟩
        replace hE := hE.fr hF5 ⟨(NoS.one hq3 rfl), (Av.ne hGqo)⟩
        replace h4 := h4.fr hF5 ⟨(NoS.one hq3 rfl), (Sep.ne (hn.ne hq3 (oNe rfl)))⟩
        replace hm4 := hm4.fr hF5 ⟨(NoS.one hq3 rfl), (Av.ne hGq3)⟩
        replace hn := hn.fr hF5 ⟨oNe rfl, (Sep.ne (hn.ne hq3 (oNe rfl)))⟩
        replace hB := hB.f1 hF5 (fun _ => Or.inr rfl)
        have hE5 : OrdD S5 (Nu S2) True (xs ++ [some m]) (acc ++ [v]) := hE.app hm4 (fun k hk => hB3.nil hk) (fun k hk => hk.1) (fun k hk => hk.2)
        (repeat (refine BW.pl rfl rfl ?_))
        refine CW.c2 rfl rfl (by first | exact Or.inl rfl | exact Or.inr (tagO (by assumption) (by rfl) (by rfl))) (by first | exact Or.inl (by decide) | exact Or.inr ⟨_, rfl, by assumption⟩) rfl (C_passes (d := d + 13) h4 ⟨by decide, by decide⟩) ?_
        rintro r S6 ⟨hh6, hP6⟩
        replace hE5 := hE5.pu hP6 hGn
        replace hn := hn.pu hP6 trivial
        replace hq5 := hq5.pu hP6 trivial
        replace hB := hB.f1 hP6.fr (fun _ => Or.inl rfl)
        rcases hh6 with ⟨z, rfl, h6⟩ | ⟨z, rfl, h6⟩
        · have hl4 := tail_len (nil_hd z (by decide))
          obtain ⟨k, rfl⟩ : ∃ k', k = k' + 1 := ⟨k - 1, by omega⟩
          refine BW.br rfl rfl (by first | omega | decide | (constructor <;> first | omega | decide)) (fun w => ?_) (fun w => by first | (exfalso; omega) | exact absurd w (by decide))
          refine ih k l4.tail (acc ++ [v]) S6 _ cap' _ (by omega) (by omega) h6 hq5 hE5 hB (by omega) (by rw [List.length_append]; simp; omega) (by rw [List.length_append]; simp; omega) ?_
          rw [hsp, pOrders_s e4 z]
          cases pOrders k l4.tail with
          | inl f => rfl
          | inr y => obtain ⟨y1, y2⟩ := y; simp
        · refine BW.br rfl rfl (by first | omega | decide | (constructor <;> first | omega | decide)) (fun w => by first | (exfalso; omega) | exact absurd w (by decide)) (fun w => ?_)
          (repeat (refine BW.pl rfl rfl ?_))
          refine BW.aret rfl rfl (RdZ.go (v := acc ++ [v]) (l1 := l4) (by rw [hsp, pOrders_e e4 z]) (by omega) (hA2.f2 hB (fun _ => rfl) (fun z => absurd hqz z)) (by omega) h6 ⟨q, rfl, hqz, _, cap', hq5, hE5.mono (F' := Nu S) (fun k hk => hA2.nil hk)⟩)
      · rintro f S4 r S' ⟨e4, hF4, hT4⟩
        refine RdZ.fl (f := f) ?_ (hA2.f2 (hB.f1 hF4 (fun _ => Or.inl rfl)) (fun _ => rfl) (fun z => absurd hqz z)) (by omega) hT4
        rw [hsp, pOrders_f e4]
  exact loop (l.length + 1) K l [] S2 [] 0 0 (Nat.lt_succ_self _) hK h hq2 OrdD.nil Fr.rf (by omega) (by simp) (by simp) (by cases pOrders K l <;> rfl)
/-- what a text of orders answers: the fault's place, or orders -/
def OrdX (n : Nat) (s : List Int) (S : BS) (r : GO) (S' : BS) : Prop := match pOrders s.length s with
  | .inl f => ∃ S1, Fr S S1 (fun k => k = n) (2800 * s.length + 31000) ∧ Thr9 5 42 ((s.length : Int) - f.length) S1 r S'
  | .inr (l, os) => if l = [] then ∃ q, r = .inl (vR (some q)) ∧ Fr S S' (fun k => k = n) (2800 * s.length + 100) ∧ OrsD S' (Nu S) True q os
    else ∃ S1, Fr S S1 (fun k => k = n) (2800 * s.length + 31000) ∧ Thr9 5 42 ((s.length : Int) - l.length) S1 r S'
theorem C_all (h : RdAt S n s s) (h32 : ∀ x ∈ s, 32 ≤ x) (hl : s.length ≤ 70) (hT : S.2.2.2 < 100000000) : BM (d + 21) gk_X3_all [aR n] S (OrdX n s S) := by
  have hn := h.ob
  refine BM.of rfl rfl rfl ?_
  (repeat (refine BW.pl rfl rfl ?_))
  refine CW.z2 rfl rfl (by first | exact Or.inl rfl | exact Or.inr (tagO (by assumption) (by rfl) (by rfl))) (by first | exact Or.inl (by decide) | exact Or.inr ⟨_, rfl, by assumption⟩) rfl rfl (C_orders (d := d) (Nat.le_refl s.length) h h32 hl hT) ?_ ?_
  · rintro l1 os w1 S1 ⟨e1, e2, hF1, h1, q, rfl, hq⟩
    have hn := h1.ob
    have hq1 : ∃ xs cap, Ob S1 q (oAl xs cap) := by obtain ⟨_, xs, cap, z, _⟩ := hq; exact ⟨xs, cap, z⟩
    (repeat (refine BW.pl rfl rfl ?_))
    refine CW.e1 rfl rfl (by first | exact Or.inl rfl | exact Or.inr (tagO (by assumption) (by rfl) (by rfl))) (by first | exact Or.inl (by decide) | exact Or.inr ⟨_, rfl, by assumption⟩) rfl (B_over (d := d + 17) h1) ?_
    by_cases z : l1 = []
    · rw [if_pos z]
      refine BW.must (d := d + 16) rfl rfl (by decide) (by decide) rfl h1 (Or.inr rfl) rfl (fun _ => ?_) (fun q S' w _ => absurd w (by decide))
      (repeat (refine BW.pl rfl rfl ?_))
      refine BW.aret rfl rfl ?_
      unfold OrdX
      rw [e1]
      dsimp only
      rw [if_pos z]
      exact ⟨q, rfl, hF1.w (fun _ _ z => z) (by omega), hq⟩
    · rw [if_neg z]
      refine BW.must (d := d + 16) rfl rfl (by decide) (by decide) rfl h1 (Or.inl rfl) rfl (fun w => absurd w (by decide)) (fun q9 S9 _ hT9 => ?_)
      unfold OrdX
      rw [e1]
      dsimp only
      rw [if_neg z]
      exact ⟨S1, hF1.w (fun _ _ z => z) (by omega), hT9⟩
  · rintro f S1 r S' ⟨e1, hF1, hT1⟩
    unfold OrdX
    rw [e1]
    exact ⟨S1, hF1.w (fun _ _ z => z) (by omega), hT1⟩
theorem Thr9.fr0 {v : Int} {cl F9 : Nat} {r : GO} (h : Thr9 cl F9 v S r S') (hc : cl = 5 ∨ cl = 11) : ∃ q, r = .inr (cl, some q) ∧ 1000 ≤ q ∧ S.1 q = oNil ∧ Ob S' q (oOwn cl) ∧ Fi S' F9 q v ∧ Fr0 S S' 19 := by
  obtain ⟨q, h1, hq, e⟩ := h
  have hqn : S.1 q = oNil := hq.2.1
  refine ⟨q, h1, hq.1, hqn, by rw [e]; exact upH_eq, by rw [e]; exact if_pos ⟨rfl, rfl⟩, fun m hm => ?_, fun m hm _ => ?_, by rw [e]; exact Nat.le_refl _⟩
  · rw [e]
    by_cases z : m = q
    · rw [z]; exact fun w => oNe (o := oOwn cl) (o' := oNil) rfl (upH_eq.symm.trans w)
    · exact fun w => hm ((upH_ne z).symm.trans w)
  · have z : m ≠ q := fun z => hm (by rw [z]; exact hqn)
    rw [e]
    refine ⟨upH_ne z, fun F hF => ⟨if_neg (fun w => z w.2), ?_⟩⟩
    show excR S.2.2.1 q F m = S.2.2.1 F m
    unfold excR upR
    simp only [z, and_false, if_false]
theorem C_readNew (hn : Ob S n (oOwn 10)) (h1000 : 1000 ≤ n) (hy : Ob S y (oStr s)) (hz : ∀ F, F < 91 → Fi S F n 0 ∧ Fe S F n none) (hs : s.length < 10000) (hr : ∀ c ∈ s, 0 ≤ c ∧ c < 128) : BMr (d + 1) gk_X3_init [aR n, aR y] S (fun r S' => r = none ∧ Fr1 S S' n 0 ∧ RdAt S' n s s) := by
  obtain ⟨H, fi, fr, t⟩ := S
  refine BMr.mono (B_readNew (d := d) hn h1000) (fun r S' ⟨h1, e⟩ => ⟨h1, ?_⟩)
  subst e
  refine ⟨⟨fun _ z => z, fun m _ hm => ⟨rfl, fun F _ => ⟨rfl, if_neg (fun z => hm z.2)⟩⟩, Nat.le_refl _⟩, hn, ⟨y, if_pos ⟨rfl, rfl⟩, hy⟩, hs, hr, 0, ?_, Nat.zero_le _, rfl⟩
  exact (hz 75 (by decide)).1
/-- what a reading costs besides: a fault makes one more object a sign -/
def rdC (s : List Int) : Nat := match sOrders s with
  | .inl _ => 32000
  | .inr _ => 1000
theorem rdC_le {s : List Int} : rdC s ≤ 32000 := by
  unfold rdC
  cases sOrders s with
  | inl _ => exact Nat.le_refl _
  | inr _ => show (1000:Nat) ≤ 32000; decide
theorem C_ordersOf (hy : Ob S y (oStr s)) (hr : ∀ c ∈ s, 32 ≤ c ∧ c < 128) (hl : s.length ≤ 70) (hT : S.2.2.2 < 90000000) : BMr (d + 22) gk_X1_ordersOf [aR y] S (fun r S' => Fr0 S S' (2800 * s.length + rdC s) ∧ match sOrders s with | .inl _ => r = vR none | .inr os => ∃ q, r = vR (some q) ∧ OrsD S' (Nu S) True q os) := by
  have hA := Fr.rf (S := S) (W := fun _ => False)
  refine BM.of rfl rfl rfl ?_
  refine CW.newO (L := 4) (c := 10) rfl rfl rfl rfl (fun n S1 hN => ?_)
  have hnz := hA.nil hN.nil
  replace hy := hy.fr hN.fr ⟨oNe rfl, Sep.no⟩
  replace hA := hA.nw hN
  have hn := hN.ob
  have hnk := hN.1
  (repeat (refine BW.pl rfl rfl ?_))
  refine CW.c2 rfl rfl (by first | exact Or.inl rfl | exact Or.inr (tagO (by assumption) (by rfl) (by rfl))) (by first | exact Or.inl (by decide) | exact Or.inr ⟨_, rfl, by assumption⟩) rfl (C_readNew (d := d + 20) hn hnk hy (hN.2.2.2.2) (by omega) (fun c hc => by have := hr c hc; omega)) ?_
  rintro r S2 ⟨rfl, hF2, h2⟩
  replace hy := hy.fr hF2 ⟨oNe rfl, (Sep.ne (hy.ne hn (oNe rfl)))⟩
  replace hA := hA.f1 hF2 (fun z => absurd hnz z)
  have hn := h2.ob
  have hAu := hA.t
  have hA2 := hA
  (repeat (refine BW.pl rfl rfl ?_))
  refine CW.call (as := [aR n]) (rest := []) rfl rfl rfl rfl rfl (by first | exact Or.inl rfl | exact Or.inr (tagO hn rfl rfl)) (Or.inl (by decide)) (C_all (d := d) h2 (fun c hc => (hr c hc).1) hl (by omega)) (fun r S' hX => ?_) (fun E q S' hX => ?_)
  · unfold OrdX at hX
    unfold sOrders
    cases e : pOrders s.length s with
    | inl f =>
      rw [e] at hX
      obtain ⟨S3, _, q, e3, _⟩ := hX
      cases e3
    | inr v =>
      obtain ⟨l, os⟩ := v
      rw [e] at hX
      dsimp only at hX
      by_cases z : l = []
      · rw [if_pos z] at hX
        obtain ⟨q, e1, hF3, hq⟩ := hX
        cases e1
        have hc : rdC s = 1000 := by unfold rdC sOrders; rw [e]; dsimp only; rw [if_pos z]
        (repeat (refine BW.pl rfl rfl ?_))
        refine BW.aret rfl rfl ⟨_, rfl, (hA2.f1 hF3 (fun z => absurd hnz z)).w (fun _ _ z => z) (by omega), ?_⟩
        dsimp only
        rw [if_pos z]
        exact ⟨q, rfl, hq.mono (F' := Nu S) (fun k hk => hA2.nil hk)⟩
      · rw [if_neg z] at hX
        obtain ⟨S3, _, q, e3, _⟩ := hX
        cases e3
  · right
    have key : ∃ S3 v, Fr S2 S3 (fun k => k = n) (2800 * s.length + 31000) ∧ Thr9 5 42 v S3 (.inr (E, q)) S' ∧ ∃ k, sOrders s = .inl k := by
      unfold OrdX at hX
      unfold sOrders
      cases e : pOrders s.length s with
      | inl f =>
        rw [e] at hX
        obtain ⟨S3, h3, h4⟩ := hX
        exact ⟨S3, _, h3, h4, _, rfl⟩
      | inr v =>
        obtain ⟨l, os⟩ := v
        rw [e] at hX
        dsimp only at hX ⊢
        by_cases z : l = []
        · rw [if_pos z] at hX
          obtain ⟨q, e1, _⟩ := hX
          cases e1
        · rw [if_neg z] at hX
          rw [if_neg z]
          obtain ⟨S3, h3, h4⟩ := hX
          exact ⟨S3, _, h3, h4, _, rfl⟩
    obtain ⟨S3, v, hF3, hT3, k9, hk9⟩ := key
    obtain ⟨q9, e9, _, _, _, _, hF4⟩ := hT3.fr0 (Or.inl rfl)
    cases e9
    have hc : rdC s = 32000 := by unfold rdC; rw [hk9]
    refine ⟨6, q9, rfl, rfl, ?_⟩
    (repeat (refine BW.pl rfl rfl ?_))
    refine BW.aret rfl rfl ⟨_, rfl, ((hA2.f1 hF3 (fun z => absurd hnz z)).f0 hF4).w (fun _ _ z => z) (by omega), ?_⟩
    rw [hk9]
end AL
