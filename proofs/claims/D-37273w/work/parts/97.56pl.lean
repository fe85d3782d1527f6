-- C
set_option maxRecDepth 100000
/-! THE READER: plain -/
section FA
variable {S S1 S2 : BS} {W : Nat → Prop} {c c2 a n m q : Nat} {o : Obj}
theorem Fr.pu (hA : Fr S S1 W c) (hP : Pu S1 S2 a n) (hW : W n) : Fr S S2 W c := (hA.tr (hP.wi hW) (fun _ _ z => z)).w (fun _ _ z => z) (Nat.le_refl _)
theorem Fr.nw (hA : Fr S S1 W c) (hN : Nw S1 S2 q o c2) : Fr S S2 W (c + c2) := hA.tr hN.fr (fun _ _ z => z.elim)
theorem Fr.f0 (hA : Fr S S1 W c) (hF : Fr0 S1 S2 c2) : Fr S S2 W (c + c2) := hA.tr hF (fun _ _ z => z.elim)
theorem Fr.f1 (hA : Fr S S1 W c) (hF : Fr1 S1 S2 m c2) (hW : S.1 m ≠ oNil → W m) : Fr S S2 W (c + c2) := hA.tr hF (fun k hk z => by rw [z]; exact hW (by rw [← z]; exact hk))
theorem Fr.f2 (hA : Fr S S1 W c) (hF : Fr S1 S2 (fun k => k = m ∨ k = n) c2) (hm : S.1 m ≠ oNil → W m) (hn : S.1 n ≠ oNil → W n) : Fr S S2 W (c + c2) := hA.tr hF (fun k hk z => by
  rcases z with z | z
  · rw [z]; exact hm (by rw [← z]; exact hk)
  · rw [z]; exact hn (by rw [← z]; exact hk))
theorem Fr.nil (hA : Fr S S1 W c) (h : S1.1 m = oNil) : S.1 m = oNil := Nu.sub hA m h
theorem Fr.t (hA : Fr S S1 W c) : S1.2.2.2 ≤ S.2.2.2 + c := hA.2.2
end FA
section PL
variable {d i a n q x b m c cap cap' c0 c1 st0 st1 cf : Nat} {M : GMeth} {ls : GL} {st : List GV} {xs xs' : List (Option Nat)} {ps qs : List SPart} {p : SPart} {s l l1 f acc : List Int} {S S0 S1 S' : BS} {F : Nat → Prop} {Q : GO → BS → Prop} {y : Option Nat} {o : Obj} {R : PR (Nat × Nat × List SPart)} {r : GO}
/-- the constant strings -/
theorem BW.kst (k : (∀ n, n < 1000 → S.1 n = Hk n) → BW d M i ls st S Q) : BW d M i ls st S Q := fun g hg => by
  obtain ⟨ρ, ν, hR⟩ := hg
  exact k (fun n hn => (hR.2.2.1 n hn).1) g ⟨ρ, ν, hR⟩
theorem PpX.fl (e : R = .inl f) (hF : Fr S S1 (fun m => m = n ∨ m = q) c) (hc : c ≤ 400 * l.length + cf) (hT : Thr9 5 42 ((s.length : Int) - f.length) S1 r S') : PpX n q cf s l S cap F ps R r S' := by
  subst e
  exact ⟨S1, hF.w (fun _ _ z => z) hc, hT⟩
theorem PpX.go (e : R = .inr (l1, c1, st1, qs)) (hl : l1.length < l.length) (hq : qs.length ≤ 2 * (l.length - l1.length)) (hF : Fr S S' (fun m => m = n ∨ m = q) c) (hc : c ≤ 400 * (l.length - l1.length) + 6 * (cap' - cap)) (h1 : cap ≤ cap') (h2 : cap' = cap ∨ cap' ≤ 2 * (ps.length + qs.length) + 10) (hR : RdAt S' n s l1) (h76 : Fi S' 76 n st1) (h77 : Fi S' 77 n c1) (hq' : Ob S' q (oAl xs' cap')) (hE : PtsE S' F xs' (ps ++ qs)) : PpX n q cf s l S cap F ps R (.inl none) S' := by
  subst e
  exact ⟨rfl, hl, hq, cap', xs', hF.w (fun _ _ z => z) hc, h1, h2, hR, h76, h77, hq', hE⟩
theorem plTest (h : RdAt S n s l) {z : Int} (hz : z = if (isChr (hd l) = true ∨ hd l = 46 ∨ hd l = 42 ∨ hd l = 91) then 1 else 0) (k : BW (d + 8) gm_X3_plain 19 [some (aR n), some (aR x), none, none] [aI z, aR n] S Q) : BW (d + 8) gm_X3_plain 0 [some (aR n), some (aR x), none, none] [] S Q := by
  have hn := h.ob
  have hR := h.R
  (repeat (refine BW.pl rfl rfl ?_))
  refine CW.e1 rfl rfl (by first | exact Or.inl rfl | exact Or.inr (tagO (by assumption) (by rfl) (by rfl))) (by first | exact Or.inl (by decide) | exact Or.inr ⟨_, rfl, by assumption⟩) rfl (B_sign (d := d + 1) h) ?_
  by_cases z1 : isChr (hd l) = true
  · rw [if_pos z1]
    rw [if_pos (Or.inl z1)] at hz
    subst hz
    refine BW.br rfl rfl (by first | omega | decide | (constructor <;> first | omega | decide)) (fun w => ?_) (fun w => by first | (exfalso; omega) | exact absurd w (by decide))
    (repeat (refine BW.pl rfl rfl ?_))
    exact k
  · rw [if_neg z1]
    refine BW.br rfl rfl (by first | omega | decide | (constructor <;> first | omega | decide)) (fun w => by first | (exfalso; omega) | exact absurd w (by decide)) (fun w => ?_)
    (repeat (refine BW.pl rfl rfl ?_))
    refine CW.e1 rfl rfl (by first | exact Or.inl rfl | exact Or.inr (tagO (by assumption) (by rfl) (by rfl))) (by first | exact Or.inl (by decide) | exact Or.inr ⟨_, rfl, by assumption⟩) rfl (B_look (d := d + 3) h) ?_
    (repeat (refine BW.pl rfl rfl ?_))
    refine BW.br rfl rfl (by first | omega | decide | (constructor <;> first | omega | decide)) (fun z2 => ?_) (fun z2 => ?_)
    · rw [if_pos (Or.inr (Or.inl ((lk_hd (by decide)).mp z2)))] at hz
      subst hz
      (repeat (refine BW.pl rfl rfl ?_))
      exact k
    · (repeat (refine BW.pl rfl rfl ?_))
      refine CW.e1 rfl rfl (by first | exact Or.inl rfl | exact Or.inr (tagO (by assumption) (by rfl) (by rfl))) (by first | exact Or.inl (by decide) | exact Or.inr ⟨_, rfl, by assumption⟩) rfl (B_look (d := d + 3) h) ?_
      (repeat (refine BW.pl rfl rfl ?_))
      refine BW.br rfl rfl (by first | omega | decide | (constructor <;> first | omega | decide)) (fun z3 => ?_) (fun z3 => ?_)
      · rw [if_pos (Or.inr (Or.inr (Or.inl ((lk_hd (by decide)).mp z3))))] at hz
        subst hz
        (repeat (refine BW.pl rfl rfl ?_))
        exact k
      · (repeat (refine BW.pl rfl rfl ?_))
        refine CW.e1 rfl rfl (by first | exact Or.inl rfl | exact Or.inr (tagO (by assumption) (by rfl) (by rfl))) (by first | exact Or.inl (by decide) | exact Or.inr ⟨_, rfl, by assumption⟩) rfl (B_look (d := d + 3) h) ?_
        (repeat (refine BW.pl rfl rfl ?_))
        refine BW.br rfl rfl (by first | omega | decide | (constructor <;> first | omega | decide)) (fun z4 => ?_) (fun z4 => ?_)
        · rw [if_neg (fun w => by
            rcases w with w | w | w | w
            · exact z1 w
            · exact z2 ((lk_hd (by decide)).mpr w)
            · exact z3 ((lk_hd (by decide)).mpr w)
            · exact z4 ((lk_hd (by decide)).mpr w))] at hz
          subst hz
          (repeat (refine BW.pl rfl rfl ?_))
          exact k
        · rw [if_pos (Or.inr (Or.inr (Or.inr ((lk_hd (by decide)).mp (by omega)))))] at hz
          subst hz
          (repeat (refine BW.pl rfl rfl ?_))
          exact k
theorem hd_cons {x0 : Int} (h : hd l = x0) (hx : 0 < x0) : ∃ l1, l = x0 :: l1 := by
  cases l with
  | nil => have h : (0 : Int) = x0 := h; omega
  | cons y l1 => exact ⟨l1, by have h : y = x0 := h; rw [h]⟩
theorem lk_cons {x0 : Int} (h : lk l = x0) (hx : 0 ≤ x0) : ∃ l1, l = x0 :: l1 := by
  cases l with
  | nil => have h : (-1 : Int) = x0 := h; omega
  | cons y l1 => exact ⟨l1, by have h : y = x0 := h; rw [h]⟩
theorem plR_set {ng : Bool} {l2 : List Int} (h0 : l ≠ []) (h91 : hd l = 91) (h1 : ng = decide (hd l.tail = 94)) (h2 : l2 = if ng = true then l.tail.tail else l.tail) : plR c0 st0 l = if l2.takeWhile isChr = [] then .inl l2 else if hd (l2.dropWhile isChr) = 93 then .inr ((l2.dropWhile isChr).tail, c0, st0, [(3, 0, l2.takeWhile isChr, ng)]) else .inl (l2.dropWhile isChr) := by
  subst h1
  unfold plR pPlain
  rw [if_neg h0, if_neg (show ¬ hd l = 42 by omega), if_neg (show ¬ hd l = 46 by omega), if_pos h91]
  dsimp only
  rw [← h2]
  by_cases z : l2.takeWhile isChr = []
  · rw [if_pos z, if_pos z]
  · rw [if_neg z, if_neg z]
    by_cases z2 : hd (l2.dropWhile isChr) = 93
    · rw [if_pos z2, if_pos z2]
    · rw [if_neg z2, if_neg z2]
theorem PtsE.ne0 (hE : PtsE S F xs ps) (hm : Ob S m o) (ho : o ≠ oOwn 8) : PtsE S (fun k => F k ∧ k ≠ m) xs ps := ⟨hE.1, fun j hj => by
  obtain ⟨k, x, h1, h2, h3, h4⟩ := hE.2 j hj
  exact ⟨k, x, h1, ⟨h2, h3.ne hm ho.symm⟩, h3, h4⟩⟩
theorem C_plain (h : RdAt S n s l) (hx : Ob S x (oOwn 9)) (hxq : Fe S 66 x (some q)) (hq : Ob S q (oAl xs cap)) (hE : PtsE S F xs ps) (hF : ∀ m, S.1 m = oNil → F m) (hFn : ¬ F n) (hFq : ¬ F q) (h76 : Fi S 76 n st0) (h77 : Fi S 77 n c0) (hst : st0 ≤ 2) (hlen : ps.length < 1000) (hT : S.2.2.2 < 900000000) : BM (d + 9) gk_X3_plain [aR n, aR x] S (PpX n q 200 s l S cap F ps (plR c0 st0 l)) := by
  have hn := h.ob
  have hAt := h.at
  have hR := h.R
  have h75 := h.fi
  have hA := Fr.rf (S := S) (W := fun m => m = n ∨ m = q)
  refine BM.of rfl rfl rfl ?_
  refine plTest h rfl ?_
  by_cases ok : isChr (hd l) = true ∨ hd l = 46 ∨ hd l = 42 ∨ hd l = 91
  · rw [if_pos ok]
    refine BW.must (d := d + 4) rfl rfl (by decide) (by decide) rfl h (Or.inr rfl) rfl (fun _ => ?_) (fun q S' w _ => absurd w (by decide))
    (repeat (refine BW.pl rfl rfl ?_))
    refine CW.e1 rfl rfl (by first | exact Or.inl rfl | exact Or.inr (tagO (by assumption) (by rfl) (by rfl))) (by first | exact Or.inl (by decide) | exact Or.inr ⟨_, rfl, by assumption⟩) rfl (B_look (d := d + 3) h) ?_
    (repeat (refine BW.pl rfl rfl ?_))
    by_cases z1 : lk l = 42
    · obtain ⟨l1, rfl⟩ := lk_cons z1 (by decide)
      refine BW.br rfl rfl (by first | omega | decide | (constructor <;> first | omega | decide)) (fun w => by first | (exfalso; omega) | exact absurd w (by decide)) (fun w => ?_)
      (repeat (first | (refine BW.pl rfl rfl ?_) | (refine CW.geti rfl rfl (by assumption) rfl rfl (by assumption) (fun _ => ?_)) | (refine CW.getr rfl rfl (by assumption) rfl rfl (by assumption) ?_)))
      by_cases z2 : st0 < 2
      · refine BW.br rfl rfl (by first | omega | decide | (constructor <;> first | omega | decide)) (fun w2 => by first | (exfalso; omega) | exact absurd w2 (by decide)) (fun w2 => ?_)
        (repeat (refine BW.pl rfl rfl ?_))
        refine BW.must (d := d + 4) rfl rfl (by decide) (by decide) rfl h (Or.inr rfl) rfl (fun _ => ?_) (fun q S' w _ => absurd w (by decide))
        (repeat (first | (refine BW.pl rfl rfl ?_) | (refine CW.geti rfl rfl (by assumption) rfl rfl (by assumption) (fun _ => ?_)) | (refine CW.getr rfl rfl (by assumption) rfl rfl (by assumption) ?_)))
        first | (refine CW.putr rfl rfl (by assumption) rfl (by decide) (fun S1 hP1 h75 => ?_)) | (refine CW.puti rfl (by assumption) rfl (by decide) (by first | exact Or.inl ⟨rfl, by first | omega | decide | (constructor <;> first | omega | decide)⟩ | exact Or.inr (Or.inl ⟨rfl, by first | omega | decide | (constructor <;> first | omega | decide)⟩) | exact Or.inr (Or.inr (Or.inl ⟨rfl, by first | omega | decide | (constructor <;> first | omega | decide)⟩)) | exact Or.inr (Or.inr (Or.inr ⟨rfl, by first | omega | decide | (constructor <;> first | omega | decide)⟩))) (fun S1 hP1 h75 => ?_))
        replace hxq := hxq.pu hP1 (Or.inl (Nat.ne_of_beq_eq_false rfl))
        replace h76 := h76.pu hP1 (Or.inl (Nat.ne_of_beq_eq_false rfl))
        replace h77 := h77.pu hP1 (Or.inl (Nat.ne_of_beq_eq_false rfl))
        replace hE := hE.pu hP1 hFn
        replace hx := hx.pu hP1 trivial
        replace hq := hq.pu hP1 trivial
        replace hn := hn.pu hP1 trivial
        replace hA := hA.f1 hP1.fr (fun _ => Or.inl rfl)
        have h := h.on hP1 h75 (by simp; omega)
        (repeat (first | (refine BW.pl rfl rfl ?_) | (refine CW.geti rfl rfl (by assumption) rfl rfl (by assumption) (fun _ => ?_)) | (refine CW.getr rfl rfl (by assumption) rfl rfl (by assumption) ?_)))
        first | (refine CW.putr rfl rfl (by assumption) rfl (by decide) (fun S2 hP2 h76 => ?_)) | (refine CW.puti rfl (by assumption) rfl (by decide) (by first | exact Or.inl ⟨rfl, by first | omega | decide | (constructor <;> first | omega | decide)⟩ | exact Or.inr (Or.inl ⟨rfl, by first | omega | decide | (constructor <;> first | omega | decide)⟩) | exact Or.inr (Or.inr (Or.inl ⟨rfl, by first | omega | decide | (constructor <;> first | omega | decide)⟩)) | exact Or.inr (Or.inr (Or.inr ⟨rfl, by first | omega | decide | (constructor <;> first | omega | decide)⟩))) (fun S2 hP2 h76 => ?_))
        replace hxq := hxq.pu hP2 (Or.inl (Nat.ne_of_beq_eq_false rfl))
        replace h77 := h77.pu hP2 (Or.inl (Nat.ne_of_beq_eq_false rfl))
        replace hE := hE.pu hP2 hFn
        replace h75 := h75.pu hP2 (Or.inl (Nat.ne_of_beq_eq_false rfl))
        replace h := h.pu hP2 (Or.inl ⟨Nat.ne_of_beq_eq_false rfl, Nat.ne_of_beq_eq_false rfl⟩)
        replace hx := hx.pu hP2 trivial
        replace hq := hq.pu hP2 trivial
        replace hn := hn.pu hP2 trivial
        replace hA := hA.f1 hP2.fr (fun _ => Or.inl rfl)
        (repeat (first | (refine BW.pl rfl rfl ?_) | (refine CW.geti rfl rfl (by assumption) rfl rfl (by assumption) (fun _ => ?_)) | (refine CW.getr rfl rfl (by assumption) rfl rfl (by assumption) ?_)))
        refine CW.newO (L := 4) (c := 8) rfl rfl rfl rfl (fun m S3 hN => ?_)
        have hmz := hA.nil hN.nil
        replace hxq := hxq.fr hN.fr ⟨⟨hx.old (oNe rfl), Nat.le_of_ble_eq_true rfl⟩, Sep.no⟩
        replace h77 := h77.fr hN.fr ⟨⟨hn.old (oNe rfl), Nat.le_of_ble_eq_true rfl⟩, Sep.no⟩
        replace h75 := h75.fr hN.fr ⟨⟨hn.old (oNe rfl), Nat.le_of_ble_eq_true rfl⟩, Sep.no⟩
        replace h := h.fr hN.fr ⟨NoS.no, Sep.no⟩
        replace h76 := h76.fr hN.fr ⟨⟨hn.old (oNe rfl), Nat.le_of_ble_eq_true rfl⟩, Sep.no⟩
        replace hx := hx.fr hN.fr ⟨oNe rfl, Sep.no⟩
        replace hq := hq.fr hN.fr ⟨oNe rfl, Sep.no⟩
        replace hn := hn.fr hN.fr ⟨oNe rfl, Sep.no⟩
        replace hA := hA.nw hN
        have hm := hN.ob
        have hmk := hN.1
        have hE := hE.new hN
        have hGn : ¬ (F n ∧ n ≠ m) := fun z => hFn z.1
        (repeat (refine BW.pl rfl rfl ?_))
        refine BW.kst (fun hK => ?_)
        have hAu := hA.t
        refine CW.addPart (p := (2, 0, [], false)) rfl rfl (by first | exact Or.inl rfl | exact Or.inr rfl) rfl rfl (by first | exact Or.inl rfl | exact Or.inr rfl) rfl hm hmk hq hE (hF m hmz) hFq ⟨256, rfl, hK 256 (by decide)⟩ ⟨(Nat.le_of_ble_eq_true rfl), (Nat.le_of_ble_eq_true rfl)⟩ hlen (by omega) rfl rfl rfl (fun S4 cap' xs' hq4 hE4 hF4 hc1 hc2 => ?_)
        replace hxq := hxq.fr hF4 ⟨⟨hx.old (oNe rfl), Nat.le_of_ble_eq_true rfl⟩, (Sep.two (Sep.ne (hx.ne hm (ownNe rfl))) (Sep.ne (hx.ne hq (oNe rfl))))⟩
        replace h77 := h77.fr hF4 ⟨⟨hn.old (oNe rfl), Nat.le_of_ble_eq_true rfl⟩, (Sep.two (Sep.ne (hn.ne hm (ownNe rfl))) (Sep.ne (hn.ne hq (oNe rfl))))⟩
        replace h75 := h75.fr hF4 ⟨⟨hn.old (oNe rfl), Nat.le_of_ble_eq_true rfl⟩, (Sep.two (Sep.ne (hn.ne hm (ownNe rfl))) (Sep.ne (hn.ne hq (oNe rfl))))⟩
        replace h := h.fr hF4 ⟨(NoS.two (NoS.one hm rfl) (NoS.one hq rfl)), (Sep.two (Sep.ne (hn.ne hm (ownNe rfl))) (Sep.ne (hn.ne hq (oNe rfl))))⟩
        replace h76 := h76.fr hF4 ⟨⟨hn.old (oNe rfl), Nat.le_of_ble_eq_true rfl⟩, (Sep.two (Sep.ne (hn.ne hm (ownNe rfl))) (Sep.ne (hn.ne hq (oNe rfl))))⟩
        replace hx := hx.fr hF4 ⟨oNe rfl, (Sep.two (Sep.ne (hx.ne hm (ownNe rfl))) (Sep.ne (hx.ne hq (oNe rfl))))⟩
        replace hn := hn.fr hF4 ⟨oNe rfl, (Sep.two (Sep.ne (hn.ne hm (ownNe rfl))) (Sep.ne (hn.ne hq (oNe rfl))))⟩
        replace hA := hA.f2 hF4 (fun z => absurd hmz z) (fun _ => Or.inr rfl)
        (repeat (refine BW.pl rfl rfl ?_))
        have e : plR c0 st0 (42 :: l1) = .inr (l1, c0, st0 + 1, [(2, 0, [], false)]) := by
          unfold plR pPlain
          rw [if_neg (List.cons_ne_nil _ _), if_pos (show hd (42 :: l1) = 42 from rfl), if_pos z2]; rfl
        exact BW.ret rfl rfl (PpX.go e (by simp) (by simp) hA (by simp; omega) hc1 hc2 h h76 h77 hq4 hE4)
      · refine BW.br rfl rfl (by first | omega | decide | (constructor <;> first | omega | decide)) (fun w2 => ?_) (fun w2 => by first | (exfalso; omega) | exact absurd w2 (by decide))
        (repeat (refine BW.pl rfl rfl ?_))
        refine BW.must (d := d + 4) rfl rfl (by decide) (by decide) rfl h (Or.inl rfl) rfl (fun w => absurd w (by decide)) (fun q9 S9 _ hT9 => ?_)
        have e : plR c0 st0 (42 :: l1) = .inl (42 :: l1) := by
          unfold plR pPlain
          rw [if_neg (List.cons_ne_nil _ _), if_pos (show hd (42 :: l1) = 42 from rfl), if_neg z2]
        exact PpX.fl e Fr.rf (Nat.zero_le _) hT9
    · refine BW.br rfl rfl (by first | omega | decide | (constructor <;> first | omega | decide)) (fun w => ?_) (fun w => by first | (exfalso; omega) | exact absurd w (by decide))
      (repeat (refine BW.pl rfl rfl ?_))
      refine CW.c2 rfl rfl (by first | exact Or.inl rfl | exact Or.inr (tagO (by assumption) (by rfl) (by rfl))) (by first | exact Or.inl (by decide) | exact Or.inr ⟨_, rfl, by assumption⟩) rfl (C_passes (d := d + 2) h ⟨by decide, by decide⟩) ?_
      rintro r S1 ⟨hh1, hP1⟩
      replace hxq := hxq.pu hP1 (Or.inl (Nat.ne_of_beq_eq_false rfl))
      replace h76 := h76.pu hP1 (Or.inl (Nat.ne_of_beq_eq_false rfl))
      replace h77 := h77.pu hP1 (Or.inl (Nat.ne_of_beq_eq_false rfl))
      replace hE := hE.pu hP1 hFn
      replace hx := hx.pu hP1 trivial
      replace hq := hq.pu hP1 trivial
      replace hn := hn.pu hP1 trivial
      replace hA := hA.f1 hP1.fr (fun _ => Or.inl rfl)
      (repeat (refine BW.pl rfl rfl ?_))
      rcases hh1 with ⟨z2, rfl, h1⟩ | ⟨z2, rfl, h1⟩
      · obtain ⟨l1, rfl⟩ := hd_cons z2 (by decide)
        refine BW.br rfl rfl (by first | omega | decide | (constructor <;> first | omega | decide)) (fun w2 => by first | (exfalso; omega) | exact absurd w2 (by decide)) (fun w2 => ?_)
        (repeat (first | (refine BW.pl rfl rfl ?_) | (refine CW.geti rfl rfl (by assumption) rfl rfl (by assumption) (fun _ => ?_)) | (refine CW.getr rfl rfl (by assumption) rfl rfl (by assumption) ?_)))
        refine CW.newO (L := 4) (c := 8) rfl rfl rfl rfl (fun m S3 hN => ?_)
        have hmz := hA.nil hN.nil
        replace hxq := hxq.fr hN.fr ⟨⟨hx.old (oNe rfl), Nat.le_of_ble_eq_true rfl⟩, Sep.no⟩
        replace h76 := h76.fr hN.fr ⟨⟨hn.old (oNe rfl), Nat.le_of_ble_eq_true rfl⟩, Sep.no⟩
        replace h77 := h77.fr hN.fr ⟨⟨hn.old (oNe rfl), Nat.le_of_ble_eq_true rfl⟩, Sep.no⟩
        replace h1 := h1.fr hN.fr ⟨NoS.no, Sep.no⟩
        replace hx := hx.fr hN.fr ⟨oNe rfl, Sep.no⟩
        replace hq := hq.fr hN.fr ⟨oNe rfl, Sep.no⟩
        replace hn := hn.fr hN.fr ⟨oNe rfl, Sep.no⟩
        replace hA := hA.nw hN
        have hm := hN.ob
        have hmk := hN.1
        have hE := hE.new hN
        have hGn : ¬ (F n ∧ n ≠ m) := fun z => hFn z.1
        (repeat (refine BW.pl rfl rfl ?_))
        refine BW.kst (fun hK => ?_)
        have hAu := hA.t
        refine CW.addPart (p := (1, 0, [], false)) rfl rfl (by first | exact Or.inl rfl | exact Or.inr rfl) rfl rfl (by first | exact Or.inl rfl | exact Or.inr rfl) rfl hm hmk hq hE (hF m hmz) hFq ⟨256, rfl, hK 256 (by decide)⟩ ⟨(Nat.le_of_ble_eq_true rfl), (Nat.le_of_ble_eq_true rfl)⟩ hlen (by omega) rfl rfl rfl (fun S4 cap' xs' hq4 hE4 hF4 hc1 hc2 => ?_)
        replace hxq := hxq.fr hF4 ⟨⟨hx.old (oNe rfl), Nat.le_of_ble_eq_true rfl⟩, (Sep.two (Sep.ne (hx.ne hm (ownNe rfl))) (Sep.ne (hx.ne hq (oNe rfl))))⟩
        replace h76 := h76.fr hF4 ⟨⟨hn.old (oNe rfl), Nat.le_of_ble_eq_true rfl⟩, (Sep.two (Sep.ne (hn.ne hm (ownNe rfl))) (Sep.ne (hn.ne hq (oNe rfl))))⟩
        replace h77 := h77.fr hF4 ⟨⟨hn.old (oNe rfl), Nat.le_of_ble_eq_true rfl⟩, (Sep.two (Sep.ne (hn.ne hm (ownNe rfl))) (Sep.ne (hn.ne hq (oNe rfl))))⟩
        replace h1 := h1.fr hF4 ⟨(NoS.two (NoS.one hm rfl) (NoS.one hq rfl)), (Sep.two (Sep.ne (hn.ne hm (ownNe rfl))) (Sep.ne (hn.ne hq (oNe rfl))))⟩
        replace hx := hx.fr hF4 ⟨oNe rfl, (Sep.two (Sep.ne (hx.ne hm (ownNe rfl))) (Sep.ne (hx.ne hq (oNe rfl))))⟩
        replace hn := hn.fr hF4 ⟨oNe rfl, (Sep.two (Sep.ne (hn.ne hm (ownNe rfl))) (Sep.ne (hn.ne hq (oNe rfl))))⟩
        replace hA := hA.f2 hF4 (fun z => absurd hmz z) (fun _ => Or.inr rfl)
        (repeat (refine BW.pl rfl rfl ?_))
        have e : plR c0 st0 (46 :: l1) = .inr (l1, c0, st0, [(1, 0, [], false)]) := by
          unfold plR pPlain
          rw [if_neg (List.cons_ne_nil _ _), if_neg (show ¬ hd (46 :: l1) = 42 from fun z => by cases z), if_pos (show hd (46 :: l1) = 46 from rfl)]; rfl
        exact BW.ret rfl rfl (PpX.go e (by simp) (by simp) hA (by simp; omega) hc1 hc2 h1 h76 h77 hq4 hE4)
      · refine BW.br rfl rfl (by first | omega | decide | (constructor <;> first | omega | decide)) (fun w2 => ?_) (fun w2 => by first | (exfalso; omega) | exact absurd w2 (by decide))
        (repeat (refine BW.pl rfl rfl ?_))
        refine CW.c2 rfl rfl (by first | exact Or.inl rfl | exact Or.inr (tagO (by assumption) (by rfl) (by rfl))) (by first | exact Or.inl (by decide) | exact Or.inr ⟨_, rfl, by assumption⟩) rfl (C_passes (d := d + 2) h1 ⟨by decide, by decide⟩) ?_
        rintro r S2 ⟨hh2, hP2⟩
        replace hxq := hxq.pu hP2 (Or.inl (Nat.ne_of_beq_eq_false rfl))
        replace h76 := h76.pu hP2 (Or.inl (Nat.ne_of_beq_eq_false rfl))
        replace h77 := h77.pu hP2 (Or.inl (Nat.ne_of_beq_eq_false rfl))
        replace hE := hE.pu hP2 hFn
        replace hx := hx.pu hP2 trivial
        replace hq := hq.pu hP2 trivial
        replace hn := hn.pu hP2 trivial
        replace hA := hA.f1 hP2.fr (fun _ => Or.inl rfl)
        (repeat (refine BW.pl rfl rfl ?_))
        rcases hh2 with ⟨z3, rfl, h2⟩ | ⟨z3, rfl, h2⟩
        · refine BW.br rfl rfl (by first | omega | decide | (constructor <;> first | omega | decide)) (fun w3 => by first | (exfalso; omega) | exact absurd w3 (by decide)) (fun w3 => ?_)
          obtain ⟨l1, rfl⟩ := hd_cons z3 (by decide)
          have h2 : RdAt S2 n s l1 := h2
          (repeat (refine BW.pl rfl rfl ?_))
          refine CW.c2 rfl rfl (by first | exact Or.inl rfl | exact Or.inr (tagO (by assumption) (by rfl) (by rfl))) (by first | exact Or.inl (by decide) | exact Or.inr ⟨_, rfl, by assumption⟩) rfl (C_passes (d := d + 2) h2 ⟨by decide, by decide⟩) ?_
          rintro r S3 ⟨hh3, hP3⟩
          replace hxq := hxq.pu hP3 (Or.inl (Nat.ne_of_beq_eq_false rfl))
          replace h76 := h76.pu hP3 (Or.inl (Nat.ne_of_beq_eq_false rfl))
          replace h77 := h77.pu hP3 (Or.inl (Nat.ne_of_beq_eq_false rfl))
          replace hE := hE.pu hP3 hFn
          replace hx := hx.pu hP3 trivial
          replace hq := hq.pu hP3 trivial
          replace hn := hn.pu hP3 trivial
          replace hA := hA.f1 hP3.fr (fun _ => Or.inl rfl)
          obtain ⟨ng, l2, hng, rfl, h3⟩ : ∃ ng l2, (ng, l2) = (decide (hd l1 = 94), if decide (hd l1 = 94) = true then l1.tail else l1) ∧ r = vI (b2i ng) ∧ RdAt S3 n s l2 := by
            rcases hh3 with ⟨z4, rfl, h3⟩ | ⟨z4, rfl, h3⟩
            · exact ⟨true, l1.tail, by rw [decide_eq_true z4]; rfl, rfl, h3⟩
            · exact ⟨false, l1, by rw [decide_eq_false z4]; rfl, rfl, h3⟩
          have hng1 : ng = decide (hd l1 = 94) := congrArg Prod.fst hng
          have hng2 : l2 = if ng = true then l1.tail else l1 := by rw [hng1]; exact congrArg Prod.snd hng
          have hl2 : l2.length ≤ l1.length := by
            rw [hng2]; split
            · rw [List.length_tail]; omega
            · exact Nat.le_refl _
          (repeat (refine BW.pl rfl rfl ?_))
          refine CW.newJ (L := 4) (c := 14) rfl rfl rfl (fun bb S4 hN4 => ?_)
          have hb4z := hA.nil hN4.nil
          replace hxq := hxq.fr hN4.fr ⟨⟨hx.old (oNe rfl), Nat.le_of_ble_eq_true rfl⟩, Sep.no⟩
          replace h76 := h76.fr hN4.fr ⟨⟨hn.old (oNe rfl), Nat.le_of_ble_eq_true rfl⟩, Sep.no⟩
          replace h77 := h77.fr hN4.fr ⟨⟨hn.old (oNe rfl), Nat.le_of_ble_eq_true rfl⟩, Sep.no⟩
          replace hE := hE.fr hN4.fr ⟨NoS.no, Av.no⟩
          replace h3 := h3.fr hN4.fr ⟨NoS.no, Sep.no⟩
          replace hx := hx.fr hN4.fr ⟨oNe rfl, Sep.no⟩
          replace hq := hq.fr hN4.fr ⟨oNe rfl, Sep.no⟩
          replace hn := hn.fr hN4.fr ⟨oNe rfl, Sep.no⟩
          replace hA := hA.nw hN4
          have hb4 := hN4.ob
          have hb4k := hN4.1
          (repeat (refine BW.pl rfl rfl ?_))
          refine CW.c1 rfl rfl (by first | exact Or.inl rfl | exact Or.inr (tagO (by assumption) (by rfl) (by rfl))) (by first | exact Or.inl (by decide) | exact Or.inr ⟨_, rfl, by assumption⟩) rfl (C_sbNew (d := d + 6) hb4) ?_
          rintro r S5 ⟨rfl, hb5, hF5⟩
          have hE := hE.ne0 hb4 (oNe rfl)
          have hGb : ¬ (F bb ∧ bb ≠ bb) := fun z => z.2 rfl
          have hGn : ¬ (F n ∧ n ≠ bb) := fun z => hFn z.1
          replace hxq := hxq.fr hF5 ⟨⟨hx.old (oNe rfl), Nat.le_of_ble_eq_true rfl⟩, (Sep.ne (hx.ne hb4 (oNe rfl)))⟩
          replace h76 := h76.fr hF5 ⟨⟨hn.old (oNe rfl), Nat.le_of_ble_eq_true rfl⟩, (Sep.ne (hn.ne hb4 (oNe rfl)))⟩
          replace h77 := h77.fr hF5 ⟨⟨hn.old (oNe rfl), Nat.le_of_ble_eq_true rfl⟩, (Sep.ne (hn.ne hb4 (oNe rfl)))⟩
          replace hE := hE.fr hF5 ⟨(NoS.one hb4 rfl), (Av.ne hGb)⟩
          replace h3 := h3.fr hF5 ⟨(NoS.one hb4 rfl), (Sep.ne (hn.ne hb4 (oNe rfl)))⟩
          replace hx := hx.fr hF5 ⟨oNe rfl, (Sep.ne (hx.ne hb4 (oNe rfl)))⟩
          replace hq := hq.fr hF5 ⟨oNe rfl, (Sep.ne (hq.ne hb4 (oNe rfl)))⟩
          replace hn := hn.fr hF5 ⟨oNe rfl, (Sep.ne (hn.ne hb4 (oNe rfl)))⟩
          replace hA := hA.f1 hF5 (fun z => absurd hb4z z)
          (iterate 1 (refine BW.pl rfl rfl ?_))
          refine plLoop (S0 := S5) (l := l2) hAt.2.2 (fun S6 l6 acc6 cap6 h6 hC6 e1 e2 e3 e4 => ?_) (fun S6 f6 acc6 cap6 r6 S' h6 hC6 e1 e2 e3 hT6 => ?_) l2 [] S5 16 h3 ⟨hb5, Fr.rf.w (fun _ _ z => z) (Nat.zero_le _), Nat.le_refl _, Or.inl rfl, fun F _ _ => ⟨rfl, rfl⟩⟩ rfl rfl (by simp) (by simp at hAt; omega) (fun z => absurd rfl z)
          · have hl6 : acc6.length + l6.length = l2.length := by rw [e1, e3, ← List.length_append, List.takeWhile_append_dropWhile]
            have h76 : Fi S6 76 n st0 := (hC6.2.2.2.2 76 (by decide) (by decide)).1.trans h76
            have h77 : Fi S6 77 n c0 := (hC6.2.2.2.2 77 (by decide) (by decide)).1.trans h77
            replace hxq := hxq.fr hC6.2.1 ⟨⟨hx.old (oNe rfl), Nat.le_of_ble_eq_true rfl⟩, (Sep.two (Sep.ne (hx.ne hn (ownNe rfl))) (Sep.ne (hx.ne hb5 (oNe rfl))))⟩
            replace hE := hE.fr hC6.2.1 ⟨(NoS.two (NoS.one hn rfl) (NoS.one hb5 rfl)), (Av.two (Av.ne hGn) (Av.ne hGb))⟩
            replace hx := hx.fr hC6.2.1 ⟨oNe rfl, (Sep.two (Sep.ne (hx.ne hn (ownNe rfl))) (Sep.ne (hx.ne hb5 (oNe rfl))))⟩
            replace hq := hq.fr hC6.2.1 ⟨oNe rfl, (Sep.two (Sep.ne (hq.ne hn (oNe rfl))) (Sep.ne (hq.ne hb5 (oNe rfl))))⟩
            replace hA := hA.f2 hC6.2.1 (fun _ => Or.inl rfl) (fun z => absurd hb4z z)
            have hn := h6.ob
            have hb := hC6.1
            have hcap := hC6.2.2
            have h75 := h6.fi
            have hA6 := h6.at
            obtain ⟨l7, rfl⟩ := hd_cons e4 (by decide)
            (repeat (first | (refine BW.pl rfl rfl ?_) | (refine CW.geti rfl rfl (by assumption) rfl rfl (by assumption) (fun _ => ?_)) | (refine CW.getr rfl rfl (by assumption) rfl rfl (by assumption) ?_)))
            first | (refine CW.putr rfl rfl (by assumption) rfl (by decide) (fun S7 hP7 h75 => ?_)) | (refine CW.puti rfl (by assumption) rfl (by decide) (by first | exact Or.inl ⟨rfl, by first | omega | decide | (constructor <;> first | omega | decide)⟩ | exact Or.inr (Or.inl ⟨rfl, by first | omega | decide | (constructor <;> first | omega | decide)⟩) | exact Or.inr (Or.inr (Or.inl ⟨rfl, by first | omega | decide | (constructor <;> first | omega | decide)⟩)) | exact Or.inr (Or.inr (Or.inr ⟨rfl, by first | omega | decide | (constructor <;> first | omega | decide)⟩))) (fun S7 hP7 h75 => ?_))
            replace hxq := hxq.pu hP7 (Or.inl (Nat.ne_of_beq_eq_false rfl))
            replace hE := hE.pu hP7 hGn
            replace h76 := h76.pu hP7 (Or.inl (Nat.ne_of_beq_eq_false rfl))
            replace h77 := h77.pu hP7 (Or.inl (Nat.ne_of_beq_eq_false rfl))
            replace hx := hx.pu hP7 trivial
            replace hq := hq.pu hP7 trivial
            replace hn := hn.pu hP7 trivial
            replace hb := hb.pu hP7 trivial
            replace hA := hA.f1 hP7.fr (fun _ => Or.inl rfl)
            have h7 := h6.on hP7 h75 (by simp; omega)
            (repeat (first | (refine BW.pl rfl rfl ?_) | (refine CW.geti rfl rfl (by assumption) rfl rfl (by assumption) (fun _ => ?_)) | (refine CW.getr rfl rfl (by assumption) rfl rfl (by assumption) ?_)))
            refine CW.newO (L := 4) (c := 8) rfl rfl rfl rfl (fun m S8 hN => ?_)
            have hmz := hA.nil hN.nil
            replace hxq := hxq.fr hN.fr ⟨⟨hx.old (oNe rfl), Nat.le_of_ble_eq_true rfl⟩, Sep.no⟩
            replace h76 := h76.fr hN.fr ⟨⟨hn.old (oNe rfl), Nat.le_of_ble_eq_true rfl⟩, Sep.no⟩
            replace h77 := h77.fr hN.fr ⟨⟨hn.old (oNe rfl), Nat.le_of_ble_eq_true rfl⟩, Sep.no⟩
            replace h75 := h75.fr hN.fr ⟨⟨hn.old (oNe rfl), Nat.le_of_ble_eq_true rfl⟩, Sep.no⟩
            replace h7 := h7.fr hN.fr ⟨NoS.no, Sep.no⟩
            replace hx := hx.fr hN.fr ⟨oNe rfl, Sep.no⟩
            replace hq := hq.fr hN.fr ⟨oNe rfl, Sep.no⟩
            replace hn := hn.fr hN.fr ⟨oNe rfl, Sep.no⟩
            replace hb := hb.fr hN.fr ⟨oNe rfl, Sep.no⟩
            replace hA := hA.nw hN
            have hm := hN.ob
            have hmk := hN.1
            have hE := (hE.mono (fun _ z => z.1)).new hN
            have hGn : ¬ (F n ∧ n ≠ m) := fun z => hFn z.1
            (repeat (refine BW.pl rfl rfl ?_))
            refine CW.c1 rfl rfl (by first | exact Or.inl rfl | exact Or.inr (tagO (by assumption) (by rfl) (by rfl))) (by first | exact Or.inl (by decide) | exact Or.inr ⟨_, rfl, by assumption⟩) rfl (C_sbStr (d := d + 2) hb) ?_
            rintro r S9 ⟨sy, rfl, hy1, hy2, hy3, hF9⟩
            replace hxq := hxq.fr hF9 ⟨⟨hx.old (oNe rfl), Nat.le_of_ble_eq_true rfl⟩, Sep.no⟩
            replace h76 := h76.fr hF9 ⟨⟨hn.old (oNe rfl), Nat.le_of_ble_eq_true rfl⟩, Sep.no⟩
            replace h77 := h77.fr hF9 ⟨⟨hn.old (oNe rfl), Nat.le_of_ble_eq_true rfl⟩, Sep.no⟩
            replace h75 := h75.fr hF9 ⟨⟨hn.old (oNe rfl), Nat.le_of_ble_eq_true rfl⟩, Sep.no⟩
            replace h7 := h7.fr hF9 ⟨NoS.no, Sep.no⟩
            replace hE := hE.fr hF9 ⟨NoS.no, Av.no⟩
            replace hx := hx.fr hF9 ⟨oNe rfl, Sep.no⟩
            replace hq := hq.fr hF9 ⟨oNe rfl, Sep.no⟩
            replace hn := hn.fr hF9 ⟨oNe rfl, Sep.no⟩
            replace hb := hb.fr hF9 ⟨oNe rfl, Sep.no⟩
            replace hm := hm.fr hF9 ⟨oNe rfl, Sep.no⟩
            replace hA := hA.f0 hF9
            (repeat (refine BW.pl rfl rfl ?_))
            have hAu := hA.t
            have hcl : 3 * (cap6 - 16) ≤ 6 * acc6.length := by rcases hcap.2.1 with z | z <;> omega
            have hst2 : acc6.length ≤ 10000 := by simp at hAt; omega
            refine CW.addPart (p := (3, 0, acc6, ng)) rfl rfl (by first | exact Or.inl rfl | exact Or.inr rfl) rfl rfl (by first | exact Or.inl rfl | exact Or.inr rfl) rfl hm hmk hq hE (hF m hmz) hFq ⟨sy, rfl, hy3⟩ ⟨(Nat.le_of_ble_eq_true rfl), (Nat.le_of_ble_eq_true rfl)⟩ hlen (by omega) rfl rfl rfl (fun S10 cap' xs' hq10 hE10 hF10 hc1 hc2 => ?_)
            replace hxq := hxq.fr hF10 ⟨⟨hx.old (oNe rfl), Nat.le_of_ble_eq_true rfl⟩, (Sep.two (Sep.ne (hx.ne hm (ownNe rfl))) (Sep.ne (hx.ne hq (oNe rfl))))⟩
            replace h76 := h76.fr hF10 ⟨⟨hn.old (oNe rfl), Nat.le_of_ble_eq_true rfl⟩, (Sep.two (Sep.ne (hn.ne hm (ownNe rfl))) (Sep.ne (hn.ne hq (oNe rfl))))⟩
            replace h77 := h77.fr hF10 ⟨⟨hn.old (oNe rfl), Nat.le_of_ble_eq_true rfl⟩, (Sep.two (Sep.ne (hn.ne hm (ownNe rfl))) (Sep.ne (hn.ne hq (oNe rfl))))⟩
            replace h75 := h75.fr hF10 ⟨⟨hn.old (oNe rfl), Nat.le_of_ble_eq_true rfl⟩, (Sep.two (Sep.ne (hn.ne hm (ownNe rfl))) (Sep.ne (hn.ne hq (oNe rfl))))⟩
            replace h7 := h7.fr hF10 ⟨(NoS.two (NoS.one hm rfl) (NoS.one hq rfl)), (Sep.two (Sep.ne (hn.ne hm (ownNe rfl))) (Sep.ne (hn.ne hq (oNe rfl))))⟩
            replace hx := hx.fr hF10 ⟨oNe rfl, (Sep.two (Sep.ne (hx.ne hm (ownNe rfl))) (Sep.ne (hx.ne hq (oNe rfl))))⟩
            replace hn := hn.fr hF10 ⟨oNe rfl, (Sep.two (Sep.ne (hn.ne hm (ownNe rfl))) (Sep.ne (hn.ne hq (oNe rfl))))⟩
            replace hb := hb.fr hF10 ⟨oNe rfl, (Sep.two (Sep.ne (hb.ne hm (oNe rfl))) (Sep.ne (hb.ne hq (oNe rfl))))⟩
            replace hA := hA.f2 hF10 (fun z => absurd hmz z) (fun _ => Or.inr rfl)
            (repeat (refine BW.pl rfl rfl ?_))
            have e : plR c0 st0 (91 :: l1) = .inr (l7, c0, st0, [(3, 0, acc6, ng)]) := by
              rw [plR_set (List.cons_ne_nil _ _) rfl hng1 hng2, ← e1, if_neg e2, ← e3, if_pos (show hd (93 :: l7) = 93 from rfl)]; rfl
            simp only [List.length_cons] at hl6
            exact BW.ret rfl rfl (PpX.go e (by simp; omega) (by simp; omega) hA (by simp; omega) hc1 hc2 h7 h76 h77 hq10 hE10)
          · have hcap := hC6.2.2
            have hcl : 3 * (cap6 - 16) ≤ 6 * acc6.length := by rcases hcap.2.1 with z | z <;> omega
            have e : plR c0 st0 (91 :: l1) = .inl f6 := by
              rw [plR_set (List.cons_ne_nil _ _) rfl hng1 hng2]
              by_cases z : l2.takeWhile isChr = []
              · rw [if_pos z, e2]
                congr 1
                have := List.takeWhile_append_dropWhile (p := isChr) (l := l2)
                rw [z] at this
                exact this.symm
              · rw [if_neg z, ← e2, if_neg (e3 z)]
            exact PpX.fl e (hA.f2 hC6.2.1 (fun _ => Or.inl rfl) (fun z => absurd hb4z z)) (by simp; omega) hT6
        · refine BW.br rfl rfl (by first | omega | decide | (constructor <;> first | omega | decide)) (fun w3 => ?_) (fun w3 => by first | (exfalso; omega) | exact absurd w3 (by decide))
          obtain ⟨y, l1, rfl⟩ : ∃ y l1, l = y :: l1 := by
            cases l with
            | nil => exact absurd ok (by decide)
            | cons y l1 => exact ⟨y, l1, rfl⟩
          have zc : isChr y = true := by
            rcases ok with z | z | z | z
            · exact z
            · exact absurd z z2
            · exact absurd z z1
            · exact absurd z z3
          have hy0 : 0 ≤ y ∧ y < 128 := ⟨by
            have : isChr y = true := zc
            unfold isChr isDig at this
            simp at this
            omega, hR.2⟩
          (repeat (first | (refine BW.pl rfl rfl ?_) | (refine CW.geti rfl rfl (by assumption) rfl rfl (by assumption) (fun _ => ?_)) | (refine CW.getr rfl rfl (by assumption) rfl rfl (by assumption) ?_)))
          refine CW.newO (L := 4) (c := 8) rfl rfl rfl rfl (fun m S3 hN => ?_)
          have hmz := hA.nil hN.nil
          replace hxq := hxq.fr hN.fr ⟨⟨hx.old (oNe rfl), Nat.le_of_ble_eq_true rfl⟩, Sep.no⟩
          replace h76 := h76.fr hN.fr ⟨⟨hn.old (oNe rfl), Nat.le_of_ble_eq_true rfl⟩, Sep.no⟩
          replace h77 := h77.fr hN.fr ⟨⟨hn.old (oNe rfl), Nat.le_of_ble_eq_true rfl⟩, Sep.no⟩
          replace h2 := h2.fr hN.fr ⟨NoS.no, Sep.no⟩
          replace hx := hx.fr hN.fr ⟨oNe rfl, Sep.no⟩
          replace hq := hq.fr hN.fr ⟨oNe rfl, Sep.no⟩
          replace hn := hn.fr hN.fr ⟨oNe rfl, Sep.no⟩
          replace hA := hA.nw hN
          have hm := hN.ob
          have hmk := hN.1
          have hE := hE.new hN
          have hGn : ¬ (F n ∧ n ≠ m) := fun z => hFn z.1
          (repeat (refine BW.pl rfl rfl ?_))
          refine CW.c1 rfl rfl (by first | exact Or.inl rfl | exact Or.inr (tagO (by assumption) (by rfl) (by rfl))) (by first | exact Or.inl (by decide) | exact Or.inr ⟨_, rfl, by assumption⟩) rfl (C_next (d := d + 3) h2) ?_
          rintro r S4 ⟨rfl, hP4, h4⟩
          replace hxq := hxq.pu hP4 (Or.inl (Nat.ne_of_beq_eq_false rfl))
          replace h76 := h76.pu hP4 (Or.inl (Nat.ne_of_beq_eq_false rfl))
          replace h77 := h77.pu hP4 (Or.inl (Nat.ne_of_beq_eq_false rfl))
          replace hE := hE.pu hP4 hGn
          replace hx := hx.pu hP4 trivial
          replace hq := hq.pu hP4 trivial
          replace hn := hn.pu hP4 trivial
          replace hm := hm.pu hP4 trivial
          replace hA := hA.f1 hP4.fr (fun _ => Or.inl rfl)
          (repeat (refine BW.pl rfl rfl ?_))
          refine CW.c1 rfl rfl (by first | exact Or.inl rfl | exact Or.inr (tagO (by assumption) (by rfl) (by rfl))) (by first | exact Or.inl (by decide) | exact Or.inr ⟨_, rfl, by assumption⟩) rfl (C_valC (d := d + 6) hy0) ?_
          rintro r S5 ⟨sy, rfl, hy1, hy2, hy3, hF5⟩
          replace hxq := hxq.fr hF5 ⟨⟨hx.old (oNe rfl), Nat.le_of_ble_eq_true rfl⟩, Sep.no⟩
          replace h76 := h76.fr hF5 ⟨⟨hn.old (oNe rfl), Nat.le_of_ble_eq_true rfl⟩, Sep.no⟩
          replace h77 := h77.fr hF5 ⟨⟨hn.old (oNe rfl), Nat.le_of_ble_eq_true rfl⟩, Sep.no⟩
          replace hE := hE.fr hF5 ⟨NoS.no, Av.no⟩
          replace h4 := h4.fr hF5 ⟨NoS.no, Sep.no⟩
          replace hx := hx.fr hF5 ⟨oNe rfl, Sep.no⟩
          replace hq := hq.fr hF5 ⟨oNe rfl, Sep.no⟩
          replace hn := hn.fr hF5 ⟨oNe rfl, Sep.no⟩
          replace hm := hm.fr hF5 ⟨oNe rfl, Sep.no⟩
          replace hA := hA.f0 hF5
          (repeat (refine BW.pl rfl rfl ?_))
          have hAu := hA.t
          refine CW.addPart (p := (0, 0, [y], false)) rfl rfl (by first | exact Or.inl rfl | exact Or.inr rfl) rfl rfl (by first | exact Or.inl rfl | exact Or.inr rfl) rfl hm hmk hq hE (hF m hmz) hFq ⟨sy, rfl, hy3⟩ ⟨(Nat.le_of_ble_eq_true rfl), (Nat.le_of_ble_eq_true rfl)⟩ hlen (by omega) rfl rfl rfl (fun S6 cap' xs' hq6 hE6 hF6 hc1 hc2 => ?_)
          replace hxq := hxq.fr hF6 ⟨⟨hx.old (oNe rfl), Nat.le_of_ble_eq_true rfl⟩, (Sep.two (Sep.ne (hx.ne hm (ownNe rfl))) (Sep.ne (hx.ne hq (oNe rfl))))⟩
          replace h76 := h76.fr hF6 ⟨⟨hn.old (oNe rfl), Nat.le_of_ble_eq_true rfl⟩, (Sep.two (Sep.ne (hn.ne hm (ownNe rfl))) (Sep.ne (hn.ne hq (oNe rfl))))⟩
          replace h77 := h77.fr hF6 ⟨⟨hn.old (oNe rfl), Nat.le_of_ble_eq_true rfl⟩, (Sep.two (Sep.ne (hn.ne hm (ownNe rfl))) (Sep.ne (hn.ne hq (oNe rfl))))⟩
          replace h4 := h4.fr hF6 ⟨(NoS.two (NoS.one hm rfl) (NoS.one hq rfl)), (Sep.two (Sep.ne (hn.ne hm (ownNe rfl))) (Sep.ne (hn.ne hq (oNe rfl))))⟩
          replace hx := hx.fr hF6 ⟨oNe rfl, (Sep.two (Sep.ne (hx.ne hm (ownNe rfl))) (Sep.ne (hx.ne hq (oNe rfl))))⟩
          replace hn := hn.fr hF6 ⟨oNe rfl, (Sep.two (Sep.ne (hn.ne hm (ownNe rfl))) (Sep.ne (hn.ne hq (oNe rfl))))⟩
          replace hA := hA.f2 hF6 (fun z => absurd hmz z) (fun _ => Or.inr rfl)
          (repeat (refine BW.pl rfl rfl ?_))
          have e : plR c0 st0 (y :: l1) = .inr (l1, c0, st0, [(0, 0, [y], false)]) := by
            unfold plR pPlain
            rw [if_neg (List.cons_ne_nil _ _), if_neg (show ¬ hd (y :: l1) = 42 from z1), if_neg z2, if_neg z3, if_pos (show isChr (hd (y :: l1)) = true from zc)]; rfl
          exact BW.ret rfl rfl (PpX.go e (by simp) (by simp) hA (by simp; omega) hc1 hc2 h4 h76 h77 hq6 hE6)
  · rw [if_neg ok]
    refine BW.must (d := d + 4) rfl rfl (by decide) (by decide) rfl h (Or.inl rfl) rfl (fun w => absurd w (by decide)) (fun q9 S9 _ hT9 => ?_)
    have e : plR c0 st0 l = .inl l := by
      unfold plR pPlain
      by_cases hl : l = []
      · rw [if_pos hl]
      · rw [if_neg hl, if_neg (fun z => ok (Or.inr (Or.inr (Or.inl z)))), if_neg (fun z => ok (Or.inr (Or.inl z))), if_neg (fun z => ok (Or.inr (Or.inr (Or.inr z)))), if_neg (fun z => ok (Or.inl z))]
    exact PpX.fl e Fr.rf (Nat.zero_le _) hT9
end PL
