-- C
set_option maxRecDepth 100000
/-! THE READER: replacing -/
section RP
variable {d i a n q x b m c cap cap' c0 c1 st0 st1 cf many L : Nat} {b1 kd : Int} {M : GMeth} {ls : GL} {st : List GV} {xs xs' : List (Option Nat)} {ps qs : List SPart} {p : SPart} {s l l0 l1 l3 f acc : List Int} {S S0 S1 S' : BS} {F F' W : Nat → Prop} {Q : GO → BS → Prop} {y : Option Nat} {o : Obj} {r : Option Nat} {pt : SPat} {LL : List Nat}
theorem rpLoop (hs : s.length < 10000) (hc0 : c0 ≤ 2) (h77 : Fi S0 77 n c0) {K : Nat} (hL : l0.length < 5000)
    (kk : ∀ S2 l2 pu cap2, pPut c0 K l0 = .inr (l2, pu) → hd l2 = 47 → l2.length + pu.length = l0.length → RdAt S2 n s l2 → ClI S0 S2 n b pu cap2 → BW (d + 8) gm_X3_replacing 53 [some (aR n), some (aR m), some (aR b)] [] S2 Q)
    (kx : ∀ S2 f c2 r S', (pPut c0 K l0 = .inl f ∨ ∃ pu, pPut c0 K l0 = .inr (f, pu) ∧ hd f ≠ 47) → Fr S0 S2 (fun k => k = n ∨ k = b) c2 → c2 ≤ 606 * l0.length + 20000 → Thr9 5 42 ((s.length : Int) - f.length) S2 r S' → Q r S') :
    ∀ k l3 acc S1 cap, l3.length < k → RdAt S1 n s l3 → ClI S0 S1 n b acc cap → acc.length + l3.length = l0.length → (pPut c0 K l0 = match pPut c0 k l3 with
      | .inl f => .inl f
      | .inr (l1, r) => .inr (l1, acc ++ r)) → BW (d + 8) gm_X3_replacing 12 [some (aR n), some (aR m), some (aR b)] [] S1 Q := by
  intro k
  induction k with
  | zero => intro l3 acc S1 cap hk; exact absurd hk (Nat.not_lt_zero _)
  | succ k ih =>
    intro l3 acc S1 cap hk h hC hla hsp
    refine rpStep (L := l0.length) hs hc0 h77 hL hk h hC (Nat.le_of_eq hla) (fun S2 l2 pu cap2 e1 e2 e3 h2 hC2 => ?_) (fun S2 f c2 r S' e1 hF2 e2 hT2 => ?_) (fun k1 l4 add e1 e2 e3 e4 S3 cap' h3 hC3 => ?_)
    · exact kk S2 l2 (acc ++ pu) cap2 (by rw [hsp, e1]) e2 (by rw [List.length_append]; omega) h2 hC2
    · refine kx S2 f c2 r S' ?_ hF2 (by omega) hT2
      rcases e1 with z | ⟨pu, z, z2⟩
      · left; rw [hsp, z]
      · right; exact ⟨acc ++ pu, by rw [hsp, z], z2⟩
    · obtain rfl : k = k1 := by omega
      have hadd : 0 < add.length := List.length_pos_iff.mpr e3
      refine ih l4 (acc ++ add) S3 cap' (by omega) h3 hC3 (by rw [List.length_append]; omega) ?_
      rw [hsp, e4]
      cases pPut c0 k l4 with
      | inl f => rfl
      | inr z => obtain ⟨z1, z2⟩ := z; simp
theorem pItems_c : ∀ (k closed stars : Nat) (acc : List SPart) (e : Int) (l l1 : List Int) (c : Nat) (ps : List SPart), pItems e k closed stars acc l = .inr (l1, c, ps) → closed ≤ 2 → stars ≤ 2 → c ≤ 2 := by
  intro k
  induction k with
  | zero =>
    intro closed stars acc e l l1 c ps h h1 h2
    by_cases z : hd l = 36 ∨ hd l = e ∨ l = []
    · rw [pItems_x z] at h; cases h; exact h1
    · rw [pItems_0 z] at h; cases h
  | succ k ih =>
    intro closed stars acc e l l1 c ps h h1 h2
    by_cases z : hd l = 36 ∨ hd l = e ∨ l = []
    · rw [pItems_x z] at h; cases h; exact h1
    · cases e1 : pItem closed stars l with
      | inl f => rw [pItems_f z e1] at h; cases h
      | inr y =>
        obtain ⟨l2, c2, s2, qs⟩ := y
        rw [pItems_s z e1] at h
        obtain ⟨g1, g2, g3⟩ := pItem_ok e1 h1 h2
        exact ih _ _ _ _ _ _ _ _ h g1 g2
theorem patR_c {e : Int} (h : patR e l = .inr (l1, c, pt)) : c ≤ 2 := by
  have key : ∀ l2 c2 pt2, pPat e l = .inr (l2, c2, pt2) → c2 ≤ 2 := fun l2 c2 pt2 h => by
    rw [pPat_is rfl rfl] at h
    cases e1 : pItems e 12 0 0 [] (if decide (hd l = 94) = true then l.tail else l) with
    | inl f => rw [e1] at h; cases h
    | inr y =>
      obtain ⟨l3, c3, ps⟩ := y
      have g := pItems_c _ _ _ _ _ _ _ _ _ e1 (by decide) (by decide)
      rw [e1] at h
      dsimp only at h
      by_cases z : ps = [] ∧ decide (hd l = 94) = false ∧ decide (hd l3 = 36) = false
      · rw [if_pos z] at h; cases h
      · rw [if_neg z] at h; cases h; exact g
  unfold patR at h
  cases e1 : pPat e l with
  | inl f => rw [e1] at h; cases h
  | inr y =>
    obtain ⟨l2, c2, pt2⟩ := y
    have := key _ _ _ e1
    rw [e1] at h
    dsimp only at h
    repeat' (split at h)
    all_goals first | (cases h; done) | (cases h; exact this)
theorem pRepl_is (h : hd l = 47) : pRepl l = match patR 47 l.tail with
    | .inl f => .inl f
    | .inr (r, c, pt) => match pPut c (r.length + 1) r with
      | .inl f => .inl f
      | .inr (l2, pu) => if hd l2 = 47 then
            (if hd l2.tail = 103 then .inr (l2.tail.tail, pt, pu, true, 1)
             else if 49 ≤ hd l2.tail ∧ hd l2.tail ≤ 57 then .inr (l2.tail.tail, pt, pu, false, hd l2.tail - 48)
             else .inr (l2.tail, pt, pu, false, 1))
          else .inl l2 := by
  unfold pRepl patR
  rw [if_pos h]
  cases pPat 47 l.tail with
  | inl f => rfl
  | inr y =>
    obtain ⟨l2, c, pt⟩ := y
    dsimp only
    rw [if_neg (show ¬ (47 : Int) = 0 by decide)]
    by_cases z : hd l2 = 47
    · rw [if_pos z, if_pos z]
      obtain ⟨l3, rfl⟩ := hd_cons z (by decide)
      rfl
    · rw [if_neg z, if_neg z]
theorem PtsE.old (h : PtsE S F xs ps) : PtsE S (fun k => F k ∧ S.1 k ≠ oNil) xs ps := ⟨h.1, fun j hj => by
  obtain ⟨k, x, h1, h2, h3, h4⟩ := h.2 j hj
  exact ⟨k, x, h1, ⟨h2, h3.old (oNe rfl)⟩, h3, h4⟩⟩
theorem PatIs.old {p : Nat} (h : PatIs S F p pt) : PatIs S (fun k => F k ∧ S.1 k ≠ oNil) p pt := by
  obtain ⟨q, cap, xs, u, w, us, ws, ⟨f1, f2, f3, f4, f5⟩, h1, h2, h3, h4, h5, h6, h7, h8, ⟨h9, h10⟩, h11, h12⟩ := h
  exact ⟨q, cap, xs, u, w, us, ws, ⟨⟨f1, h1.old (oNe rfl)⟩, ⟨f2, h3.old (oNe rfl)⟩, ⟨f3, h9.old (oNe rfl)⟩, ⟨f4, h11.old (oNe rfl)⟩, f5⟩, h1, h2, h3, h4.old, h5, h6, h7, h8, ⟨h9, h10⟩, h11, h12⟩
theorem PatO.old (h : PatO S F kd r pt) : PatO S (fun k => F k ∧ S.1 k ≠ oNil) kd r pt := fun z => (h z).imp (fun p hp => ⟨hp.1, hp.2.old⟩)
theorem AdrIs.old {v : SAdr} (h : AdrIs S F m v) : AdrIs S (fun k => F k ∧ S.1 k ≠ oNil) m v := by
  obtain ⟨f, h1, h2, h3, h4, h5, r, h6, h7⟩ := h
  exact ⟨⟨f, h1.old (oNe rfl)⟩, h1, h2, h3, h4, h5, r, h6, fun z => (h7 z).imp (fun p hp => ⟨hp.1, hp.2.old⟩)⟩
theorem AdO.old {v : Option SAdr} (h : AdO S F r v) : AdO S (fun k => F k ∧ S.1 k ≠ oNil) r v := by
  cases v with
  | none => exact h
  | some v => exact Exists.imp (fun a ha => ⟨ha.1, ha.2.old⟩) h
theorem C_replacing (h : RdAt S n s l) (hm : Ob S m (oOwn 7)) (h32 : ∀ x ∈ s, 32 ≤ x) (hl : l.length ≤ 70) (hT : S.2.2.2 < 600000000) : BM (d + 13) gk_X3_replacing [aR n, aR m] S (RdY n 900 s l S (fun k => k = n ∨ k = m) (pRepl l) (fun v w S' => w = none ∧ Ob S' m (oOwn 7) ∧ (∃ p, Fe S' 52 m (some p) ∧ PatIs S' (Nu S) p v.1) ∧ (∃ y, Fe S' 53 m (some y) ∧ Ob S' y (oStr v.2.1)) ∧ Fi S' 55 m (b2i v.2.2.1) ∧ Fi S' 49 m v.2.2.2 ∧ FlK S S' m [49, 52, 53, 55])) := by
  have hn := h.ob
  have hnS := hn
  have hmS := hm
  have hAt := h.at
  have hR := h.R
  have hK := FlK.rf (S := S) (m := m) (LL := [49, 52, 53, 55])
  have hA := Fr.rf (S := S) (W := fun k => k = n ∨ k = m)
  have hGn : ¬ Nu S n := Nu.not hn (oNe rfl)
  have hGm : ¬ Nu S m := Nu.not hm (oNe rfl)
  refine BM.of rfl rfl rfl ?_
  (repeat (refine BW.pl rfl rfl ?_))
  refine CW.r2 rfl rfl (by first | exact Or.inl rfl | exact Or.inr (tagO (by assumption) (by rfl) (by rfl))) (by first | exact Or.inl (by decide) | exact Or.inr ⟨_, rfl, by assumption⟩) rfl rfl (C_mustC (d := d + 6) h ⟨by decide, by decide⟩) ?_ ?_
  · rintro l1 v1 w1 S1 ⟨e1, e2, hF1, h1, rfl, hP1⟩
    have e3 : hd l = 47 ∧ l1 = l.tail := by
      split at e1
      · rename_i z; cases e1; exact ⟨z, rfl⟩
      · cases e1
    obtain ⟨e3, rfl⟩ := e3
    have hl1 : l.tail.length + 1 = l.length := by
      obtain ⟨l', rfl⟩ := hd_cons e3 (by decide); rfl
    have pr := pRepl_is e3
    replace hK := hK.fr hP1.fr ⟨hm.old (oNe rfl), Sep.ne (hm.ne hn (ownNe rfl))⟩
    replace hn := hn.pu hP1 trivial
    replace hm := hm.pu hP1 trivial
    replace hA := hA.f1 hP1.fr (fun _ => Or.inl rfl)
    have hAu := hA.t
    (repeat (refine BW.pl rfl rfl ?_))
    refine CW.r2 rfl rfl (by first | exact Or.inl rfl | exact Or.inr (tagO (by assumption) (by rfl) (by rfl))) (by first | exact Or.inl (by decide) | exact Or.inr ⟨_, rfl, by assumption⟩) rfl rfl (C_patternE (d := d) h1 h32 ⟨by decide, by decide⟩ (by omega) (by omega)) ?_ ?_
    · rintro l2 ⟨c, pt⟩ w2 S2 ⟨e4, e5, hF2, h2, p, rfl, hp2, h77⟩
      have hc2 := patR_c e4
      rw [e4] at pr
      dsimp only at pr
      have hp2 := hp2.mono (F' := Nu S) (fun k hk => hA.nil hk)
      replace hK := hK.fr hF2 ⟨hm.old (oNe rfl), (Sep.ne (hm.ne hn (ownNe rfl)))⟩
      replace hm := hm.fr hF2 ⟨oNe rfl, (Sep.ne (hm.ne hn (ownNe rfl)))⟩
      replace hA := hA.f1 hF2 (fun _ => Or.inl rfl)
      have hn := h2.ob
      (repeat (refine BW.pl rfl rfl ?_))
      first | (refine CW.putr rfl rfl (by assumption) rfl (by decide) (fun S3 hP3 h52 => ?_)) | (refine CW.puti rfl (by assumption) rfl (by decide) (by first | exact Or.inl ⟨rfl, by first | omega | decide | (constructor <;> first | omega | decide)⟩ | exact Or.inr (Or.inl ⟨rfl, by first | omega | decide | (constructor <;> first | omega | decide)⟩) | exact Or.inr (Or.inr (Or.inl ⟨rfl, by first | omega | decide | (constructor <;> first | omega | decide)⟩)) | exact Or.inr (Or.inr (Or.inr ⟨rfl, by first | omega | decide | (constructor <;> first | omega | decide)⟩))) (fun S3 hP3 h52 => ?_))
      replace hK := hK.put hP3 (by decide)
      replace h2 := h2.pu hP3 (Or.inl ⟨Nat.ne_of_beq_eq_false rfl, Nat.ne_of_beq_eq_false rfl⟩)
      replace hp2 := hp2.pu hP3 hGm
      replace h77 := h77.pu hP3 (Or.inl (Nat.ne_of_beq_eq_false rfl))
      replace hm := hm.pu hP3 trivial
      replace hn := hn.pu hP3 trivial
      replace hA := hA.f1 hP3.fr (fun _ => Or.inr rfl)
      have hp2 := hp2.old
      have hHn : ¬ (Nu S n ∧ S3.1 n ≠ oNil) := fun z => hGn z.1
      have hHm : ¬ (Nu S m ∧ S3.1 m ≠ oNil) := fun z => hGm z.1
      refine CW.newJ (L := 4) (c := 14) rfl rfl rfl (fun bb S4 hN => ?_)
      have hbz := hA.nil hN.nil
      replace hK := hK.fr hN.fr ⟨hm.old (oNe rfl), Sep.no⟩
      replace h2 := h2.fr hN.fr ⟨NoS.no, Sep.no⟩
      replace hp2 := hp2.fr hN.fr ⟨NoS.no, Av.no⟩
      replace h77 := h77.fr hN.fr ⟨⟨hn.old (oNe rfl), Nat.le_of_ble_eq_true rfl⟩, Sep.no⟩
      replace h52 := h52.fr hN.fr ⟨⟨hm.old (oNe rfl), Nat.le_of_ble_eq_true rfl⟩, Sep.no⟩
      replace hm := hm.fr hN.fr ⟨oNe rfl, Sep.no⟩
      replace hn := hn.fr hN.fr ⟨oNe rfl, Sep.no⟩
      replace hA := hA.nw hN
      have hb := hN.ob
      have hbk := hN.1
      have hHb : ¬ (Nu S bb ∧ S3.1 bb ≠ oNil) := fun z => z.2 hN.nil
      (repeat (refine BW.pl rfl rfl ?_))
      refine CW.c1 rfl rfl (by first | exact Or.inl rfl | exact Or.inr (tagO (by assumption) (by rfl) (by rfl))) (by first | exact Or.inl (by decide) | exact Or.inr ⟨_, rfl, by assumption⟩) rfl (C_sbNew (d := d + 10) hb) ?_
      rintro r S5 ⟨rfl, hb5, hF5⟩
      replace hK := hK.fr hF5 ⟨hm.old (oNe rfl), (Sep.ne (hm.ne hb (oNe rfl)))⟩
      replace h2 := h2.fr hF5 ⟨(NoS.one hb rfl), (Sep.ne (hn.ne hb (oNe rfl)))⟩
      replace hp2 := hp2.fr hF5 ⟨(NoS.one hb rfl), (Av.ne hHb)⟩
      replace h77 := h77.fr hF5 ⟨⟨hn.old (oNe rfl), Nat.le_of_ble_eq_true rfl⟩, (Sep.ne (hn.ne hb (oNe rfl)))⟩
      replace h52 := h52.fr hF5 ⟨⟨hm.old (oNe rfl), Nat.le_of_ble_eq_true rfl⟩, (Sep.ne (hm.ne hb (oNe rfl)))⟩
      replace hm := hm.fr hF5 ⟨oNe rfl, (Sep.ne (hm.ne hb (oNe rfl)))⟩
      replace hn := hn.fr hF5 ⟨oNe rfl, (Sep.ne (hn.ne hb (oNe rfl)))⟩
      replace hA := hA.f1 hF5 (fun z => absurd hbz z)
      (iterate 1 (refine BW.pl rfl rfl ?_))
      have hl2 : l2.length ≤ 70 := by omega
      refine rpLoop (d := d + 4) (S0 := S5) (l0 := l2) (K := l2.length + 1) (m := m) hAt.2.2 hc2 h77 (by omega) (fun S6 l6 pu cap6 e6 e7 e8 h6 hC6 => ?_) (fun S6 f c6 r S' e6 hF6 e7 hT6 => ?_) (l2.length + 1) l2 [] S5 16 (Nat.lt_succ_self _) h2 ⟨hb5, Fr.rf.w (fun _ _ z => z) (Nat.zero_le _), Nat.le_refl _, Or.inl rfl, fun F _ _ => ⟨rfl, rfl⟩⟩ (by simp) ?_
      · have hcl : 3 * (cap6 - 16) ≤ 6 * pu.length := by rcases hC6.2.2.2.1 with z | z <;> omega
        rw [e6] at pr
        dsimp only at pr
        rw [if_pos e7] at pr
        obtain ⟨l7, rfl⟩ := hd_cons e7 (by decide)
        rw [List.tail_cons] at pr
        have hlc : (47 :: l7).length = l7.length + 1 := rfl
        replace hK := hK.fr hC6.2.1 ⟨hm.old (oNe rfl), (Sep.two (Sep.ne (hm.ne hn (ownNe rfl))) (Sep.ne (hm.ne hb5 (oNe rfl))))⟩
        replace hp2 := hp2.fr hC6.2.1 ⟨(NoS.two (NoS.one hn rfl) (NoS.one hb5 rfl)), (Av.two (Av.ne hHn) (Av.ne hHb))⟩
        replace h52 := h52.fr hC6.2.1 ⟨⟨hm.old (oNe rfl), Nat.le_of_ble_eq_true rfl⟩, (Sep.two (Sep.ne (hm.ne hn (ownNe rfl))) (Sep.ne (hm.ne hb5 (oNe rfl))))⟩
        replace hm := hm.fr hC6.2.1 ⟨oNe rfl, (Sep.two (Sep.ne (hm.ne hn (ownNe rfl))) (Sep.ne (hm.ne hb5 (oNe rfl))))⟩
        replace hA := hA.f2 hC6.2.1 (fun _ => Or.inl rfl) (fun z => absurd hbz z)
        have hn := h6.ob
        have hb6 := hC6.1
        have h75 := h6.fi
        have hAt6 := h6.at
        (repeat (first | (refine BW.pl rfl rfl ?_) | (refine CW.geti rfl rfl (by assumption) rfl rfl (by assumption) (fun _ => ?_)) | (refine CW.getr rfl rfl (by assumption) rfl rfl (by assumption) ?_)))
        first | (refine CW.putr rfl rfl (by assumption) rfl (by decide) (fun S7 hP7 h75 => ?_)) | (refine CW.puti rfl (by assumption) rfl (by decide) (by first | exact Or.inl ⟨rfl, by first | omega | decide | (constructor <;> first | omega | decide)⟩ | exact Or.inr (Or.inl ⟨rfl, by first | omega | decide | (constructor <;> first | omega | decide)⟩) | exact Or.inr (Or.inr (Or.inl ⟨rfl, by first | omega | decide | (constructor <;> first | omega | decide)⟩)) | exact Or.inr (Or.inr (Or.inr ⟨rfl, by first | omega | decide | (constructor <;> first | omega | decide)⟩))) (fun S7 hP7 h75 => ?_))
        replace hK := hK.fr hP7.fr ⟨hm.old (oNe rfl), Sep.ne (hm.ne hn (ownNe rfl))⟩
        replace hp2 := hp2.pu hP7 hHn
        replace h52 := h52.pu hP7 (Or.inl (Nat.ne_of_beq_eq_false rfl))
        replace hm := hm.pu hP7 trivial
        replace hn := hn.pu hP7 trivial
        replace hb6 := hb6.pu hP7 trivial
        replace hA := hA.f1 hP7.fr (fun _ => Or.inl rfl)
        have h7 := h6.on hP7 h75 (by omega)
        (repeat (refine BW.pl rfl rfl ?_))
        refine CW.c1 rfl rfl (by first | exact Or.inl rfl | exact Or.inr (tagO (by assumption) (by rfl) (by rfl))) (by first | exact Or.inl (by decide) | exact Or.inr ⟨_, rfl, by assumption⟩) rfl (C_sbStr (d := d + 6) hb6) ?_
        rintro r S8 ⟨sy, rfl, hy1, hy2, hy3, hF8⟩
        replace hK := hK.fr hF8 ⟨hm.old (oNe rfl), Sep.no⟩
        replace hp2 := hp2.fr hF8 ⟨NoS.no, Av.no⟩
        replace h52 := h52.fr hF8 ⟨⟨hm.old (oNe rfl), Nat.le_of_ble_eq_true rfl⟩, Sep.no⟩
        replace h75 := h75.fr hF8 ⟨⟨hn.old (oNe rfl), Nat.le_of_ble_eq_true rfl⟩, Sep.no⟩
        replace h7 := h7.fr hF8 ⟨NoS.no, Sep.no⟩
        replace hm := hm.fr hF8 ⟨oNe rfl, Sep.no⟩
        replace hn := hn.fr hF8 ⟨oNe rfl, Sep.no⟩
        replace hb6 := hb6.fr hF8 ⟨oNe rfl, Sep.no⟩
        replace hA := hA.f0 hF8
        (repeat (refine BW.pl rfl rfl ?_))
        first | (refine CW.putr rfl rfl (by assumption) rfl (by decide) (fun S9 hP9 h53 => ?_)) | (refine CW.puti rfl (by assumption) rfl (by decide) (by first | exact Or.inl ⟨rfl, by first | omega | decide | (constructor <;> first | omega | decide)⟩ | exact Or.inr (Or.inl ⟨rfl, by first | omega | decide | (constructor <;> first | omega | decide)⟩) | exact Or.inr (Or.inr (Or.inl ⟨rfl, by first | omega | decide | (constructor <;> first | omega | decide)⟩)) | exact Or.inr (Or.inr (Or.inr ⟨rfl, by first | omega | decide | (constructor <;> first | omega | decide)⟩))) (fun S9 hP9 h53 => ?_))
        replace hK := hK.put hP9 (by decide)
        replace hp2 := hp2.pu hP9 hHm
        replace h52 := h52.pu hP9 (Or.inl (Nat.ne_of_beq_eq_false rfl))
        replace h75 := h75.pu hP9 (Or.inl (Nat.ne_of_beq_eq_false rfl))
        replace h7 := h7.pu hP9 (Or.inl ⟨Nat.ne_of_beq_eq_false rfl, Nat.ne_of_beq_eq_false rfl⟩)
        replace hm := hm.pu hP9 trivial
        replace hn := hn.pu hP9 trivial
        replace hb6 := hb6.pu hP9 trivial
        replace hy3 := hy3.pu hP9 trivial
        replace hA := hA.f1 hP9.fr (fun _ => Or.inr rfl)
        (repeat (refine BW.pl rfl rfl ?_))
        refine CW.c2 rfl rfl (by first | exact Or.inl rfl | exact Or.inr (tagO (by assumption) (by rfl) (by rfl))) (by first | exact Or.inl (by decide) | exact Or.inr ⟨_, rfl, by assumption⟩) rfl (C_passes (d := d + 6) h7 ⟨by decide, by decide⟩) ?_
        rintro r S10 ⟨hh10, hP10⟩
        replace hK := hK.fr hP10.fr ⟨hm.old (oNe rfl), Sep.ne (hm.ne hn (ownNe rfl))⟩
        replace hp2 := hp2.pu hP10 hHn
        replace h52 := h52.pu hP10 (Or.inl (Nat.ne_of_beq_eq_false rfl))
        replace h53 := h53.pu hP10 (Or.inl (Nat.ne_of_beq_eq_false rfl))
        replace hm := hm.pu hP10 trivial
        replace hn := hn.pu hP10 trivial
        replace hb6 := hb6.pu hP10 trivial
        replace hy3 := hy3.pu hP10 trivial
        replace hA := hA.f1 hP10.fr (fun _ => Or.inl rfl)
        (repeat (refine BW.pl rfl rfl ?_))
        rcases hh10 with ⟨z, rfl, h10⟩ | ⟨z, rfl, h10⟩
        · skip
          rw [if_pos z] at pr
          have hlt7 : l7.tail.length + 1 = l7.length := by
            obtain ⟨l8, rfl⟩ := hd_cons z (by decide); rfl
          first | (refine CW.putr rfl rfl (by assumption) rfl (by decide) (fun S11 hP11 h55 => ?_)) | (refine CW.puti rfl (by assumption) rfl (by decide) (by first | exact Or.inl ⟨rfl, by first | omega | decide | (constructor <;> first | omega | decide)⟩ | exact Or.inr (Or.inl ⟨rfl, by first | omega | decide | (constructor <;> first | omega | decide)⟩) | exact Or.inr (Or.inr (Or.inl ⟨rfl, by first | omega | decide | (constructor <;> first | omega | decide)⟩)) | exact Or.inr (Or.inr (Or.inr ⟨rfl, by first | omega | decide | (constructor <;> first | omega | decide)⟩))) (fun S11 hP11 h55 => ?_))
          replace hK := hK.put hP11 (by decide)
          replace hp2 := hp2.pu hP11 hHm
          replace h52 := h52.pu hP11 (Or.inl (Nat.ne_of_beq_eq_false rfl))
          replace h53 := h53.pu hP11 (Or.inl (Nat.ne_of_beq_eq_false rfl))
          replace h10 := h10.pu hP11 (Or.inl ⟨Nat.ne_of_beq_eq_false rfl, Nat.ne_of_beq_eq_false rfl⟩)
          replace hm := hm.pu hP11 trivial
          replace hn := hn.pu hP11 trivial
          replace hb6 := hb6.pu hP11 trivial
          replace hy3 := hy3.pu hP11 trivial
          replace hA := hA.f1 hP11.fr (fun _ => Or.inr rfl)
          (repeat (first | (refine BW.pl rfl rfl ?_) | (refine CW.geti rfl rfl (by assumption) rfl rfl (by assumption) (fun _ => ?_)) | (refine CW.getr rfl rfl (by assumption) rfl rfl (by assumption) ?_)))
          refine BW.br rfl rfl (by first | omega | decide | (constructor <;> first | omega | decide)) (fun w => ?_) (fun w => by first | (exfalso; omega) | exact absurd w (by decide))
          (repeat (refine BW.pl rfl rfl ?_))
          first | (refine CW.putr rfl rfl (by assumption) rfl (by decide) (fun S12 hP12 h49 => ?_)) | (refine CW.puti rfl (by assumption) rfl (by decide) (by first | exact Or.inl ⟨rfl, by first | omega | decide | (constructor <;> first | omega | decide)⟩ | exact Or.inr (Or.inl ⟨rfl, by first | omega | decide | (constructor <;> first | omega | decide)⟩) | exact Or.inr (Or.inr (Or.inl ⟨rfl, by first | omega | decide | (constructor <;> first | omega | decide)⟩)) | exact Or.inr (Or.inr (Or.inr ⟨rfl, by first | omega | decide | (constructor <;> first | omega | decide)⟩))) (fun S12 hP12 h49 => ?_))
          replace hK := hK.put hP12 (by decide)
          replace hp2 := hp2.pu hP12 hHm
          replace h52 := h52.pu hP12 (Or.inl (Nat.ne_of_beq_eq_false rfl))
          replace h53 := h53.pu hP12 (Or.inl (Nat.ne_of_beq_eq_false rfl))
          replace h10 := h10.pu hP12 (Or.inl ⟨Nat.ne_of_beq_eq_false rfl, Nat.ne_of_beq_eq_false rfl⟩)
          replace h55 := h55.pu hP12 (Or.inl (Nat.ne_of_beq_eq_false rfl))
          replace hm := hm.pu hP12 trivial
          replace hn := hn.pu hP12 trivial
          replace hb6 := hb6.pu hP12 trivial
          replace hy3 := hy3.pu hP12 trivial
          replace hA := hA.f1 hP12.fr (fun _ => Or.inr rfl)
          exact BW.ret rfl rfl (RdY.go pr (by omega) hA (by omega) h10 ⟨rfl, hm, ⟨p, h52, hp2.mono (fun _ z => z.1)⟩, ⟨sy, h53, hy3⟩, by exact h55, by exact h49, hK⟩)
        · skip
          rw [if_neg z] at pr
          first | (refine CW.putr rfl rfl (by assumption) rfl (by decide) (fun S11 hP11 h55 => ?_)) | (refine CW.puti rfl (by assumption) rfl (by decide) (by first | exact Or.inl ⟨rfl, by first | omega | decide | (constructor <;> first | omega | decide)⟩ | exact Or.inr (Or.inl ⟨rfl, by first | omega | decide | (constructor <;> first | omega | decide)⟩) | exact Or.inr (Or.inr (Or.inl ⟨rfl, by first | omega | decide | (constructor <;> first | omega | decide)⟩)) | exact Or.inr (Or.inr (Or.inr ⟨rfl, by first | omega | decide | (constructor <;> first | omega | decide)⟩))) (fun S11 hP11 h55 => ?_))
          replace hK := hK.put hP11 (by decide)
          replace hp2 := hp2.pu hP11 hHm
          replace h52 := h52.pu hP11 (Or.inl (Nat.ne_of_beq_eq_false rfl))
          replace h53 := h53.pu hP11 (Or.inl (Nat.ne_of_beq_eq_false rfl))
          replace h10 := h10.pu hP11 (Or.inl ⟨Nat.ne_of_beq_eq_false rfl, Nat.ne_of_beq_eq_false rfl⟩)
          replace hm := hm.pu hP11 trivial
          replace hn := hn.pu hP11 trivial
          replace hb6 := hb6.pu hP11 trivial
          replace hy3 := hy3.pu hP11 trivial
          replace hA := hA.f1 hP11.fr (fun _ => Or.inr rfl)
          (repeat (first | (refine BW.pl rfl rfl ?_) | (refine CW.geti rfl rfl (by assumption) rfl rfl (by assumption) (fun _ => ?_)) | (refine CW.getr rfl rfl (by assumption) rfl rfl (by assumption) ?_)))
          refine BW.br rfl rfl (by first | omega | decide | (constructor <;> first | omega | decide)) (fun w => by first | (exfalso; omega) | exact absurd w (by decide)) (fun w => ?_)
          have hR7 := h10.R
          (repeat (refine BW.pl rfl rfl ?_))
          refine CW.e1 rfl rfl (by first | exact Or.inl rfl | exact Or.inr (tagO (by assumption) (by rfl) (by rfl))) (by first | exact Or.inl (by decide) | exact Or.inr ⟨_, rfl, by assumption⟩) rfl (B_look (d := d + 7) h10) ?_
          refine BW.i2l rfl (by omega) ?_
          (repeat (refine BW.pl rfl rfl ?_))
          refine CW.e3 rfl rfl (by first | exact Or.inl rfl | exact Or.inr (tagO (by assumption) (by rfl) (by rfl))) (by first | exact Or.inl (by decide) | exact Or.inr ⟨_, rfl, by assumption⟩) rfl (B_in (d := d + 11) (by omega) (by decide) (by decide)) ?_
          by_cases z2 : 49 ≤ lk l7 ∧ lk l7 ≤ 57
          · obtain ⟨y, l8, rfl⟩ : ∃ y l8, l7 = y :: l8 := by
              cases l7 with
              | nil => exact absurd z2.1 (by decide)
              | cons y l8 => exact ⟨y, l8, rfl⟩
            have z3 : 49 ≤ y ∧ y ≤ 57 := z2
            have hlc2 : (y :: l8).length = l8.length + 1 := rfl
            rw [if_pos z2]
            rw [if_pos (show 49 ≤ hd (y :: l8) ∧ hd (y :: l8) ≤ 57 from z2), List.tail_cons] at pr
            refine BW.br rfl rfl (by first | omega | decide | (constructor <;> first | omega | decide)) (fun w2 => by first | (exfalso; omega) | exact absurd w2 (by decide)) (fun w2 => ?_)
            (repeat (refine BW.pl rfl rfl ?_))
            refine CW.c1 rfl rfl (by first | exact Or.inl rfl | exact Or.inr (tagO (by assumption) (by rfl) (by rfl))) (by first | exact Or.inl (by decide) | exact Or.inr ⟨_, rfl, by assumption⟩) rfl (C_next (d := d + 7) h10) ?_
            rintro r S12 ⟨rfl, hP12, h12⟩
            replace hK := hK.fr hP12.fr ⟨hm.old (oNe rfl), Sep.ne (hm.ne hn (ownNe rfl))⟩
            replace hp2 := hp2.pu hP12 hHn
            replace h52 := h52.pu hP12 (Or.inl (Nat.ne_of_beq_eq_false rfl))
            replace h53 := h53.pu hP12 (Or.inl (Nat.ne_of_beq_eq_false rfl))
            replace h55 := h55.pu hP12 (Or.inl (Nat.ne_of_beq_eq_false rfl))
            replace hm := hm.pu hP12 trivial
            replace hn := hn.pu hP12 trivial
            replace hb6 := hb6.pu hP12 trivial
            replace hy3 := hy3.pu hP12 trivial
            replace hA := hA.f1 hP12.fr (fun _ => Or.inl rfl)
            (repeat (refine BW.pl rfl rfl ?_))
            first | (refine CW.putr rfl rfl (by assumption) rfl (by decide) (fun S13 hP13 h49 => ?_)) | (refine CW.puti rfl (by assumption) rfl (by decide) (by first | exact Or.inl ⟨rfl, by first | omega | decide | (constructor <;> first | omega | decide)⟩ | exact Or.inr (Or.inl ⟨rfl, by first | omega | decide | (constructor <;> first | omega | decide)⟩) | exact Or.inr (Or.inr (Or.inl ⟨rfl, by first | omega | decide | (constructor <;> first | omega | decide)⟩)) | exact Or.inr (Or.inr (Or.inr ⟨rfl, by first | omega | decide | (constructor <;> first | omega | decide)⟩))) (fun S13 hP13 h49 => ?_))
            replace hK := hK.put hP13 (by decide)
            replace hp2 := hp2.pu hP13 hHm
            replace h52 := h52.pu hP13 (Or.inl (Nat.ne_of_beq_eq_false rfl))
            replace h53 := h53.pu hP13 (Or.inl (Nat.ne_of_beq_eq_false rfl))
            replace h55 := h55.pu hP13 (Or.inl (Nat.ne_of_beq_eq_false rfl))
            replace h12 := h12.pu hP13 (Or.inl ⟨Nat.ne_of_beq_eq_false rfl, Nat.ne_of_beq_eq_false rfl⟩)
            replace hm := hm.pu hP13 trivial
            replace hn := hn.pu hP13 trivial
            replace hb6 := hb6.pu hP13 trivial
            replace hy3 := hy3.pu hP13 trivial
            replace hA := hA.f1 hP13.fr (fun _ => Or.inr rfl)
            exact BW.ret rfl rfl (RdY.go pr (by omega) hA (by omega) h12 ⟨rfl, hm, ⟨p, h52, hp2.mono (fun _ z => z.1)⟩, ⟨sy, h53, hy3⟩, by exact h55, by exact h49, hK⟩)
          · rw [if_neg z2]
            rw [if_neg (fun w => z2 (by
              cases l7 with
              | nil => exact absurd w.1 (by decide)
              | cons y l8 => exact w))] at pr
            refine BW.br rfl rfl (by first | omega | decide | (constructor <;> first | omega | decide)) (fun w2 => ?_) (fun w2 => by first | (exfalso; omega) | exact absurd w2 (by decide))
            (repeat (refine BW.pl rfl rfl ?_))
            first | (refine CW.putr rfl rfl (by assumption) rfl (by decide) (fun S12 hP12 h49 => ?_)) | (refine CW.puti rfl (by assumption) rfl (by decide) (by first | exact Or.inl ⟨rfl, by first | omega | decide | (constructor <;> first | omega | decide)⟩ | exact Or.inr (Or.inl ⟨rfl, by first | omega | decide | (constructor <;> first | omega | decide)⟩) | exact Or.inr (Or.inr (Or.inl ⟨rfl, by first | omega | decide | (constructor <;> first | omega | decide)⟩)) | exact Or.inr (Or.inr (Or.inr ⟨rfl, by first | omega | decide | (constructor <;> first | omega | decide)⟩))) (fun S12 hP12 h49 => ?_))
            replace hK := hK.put hP12 (by decide)
            replace hp2 := hp2.pu hP12 hHm
            replace h52 := h52.pu hP12 (Or.inl (Nat.ne_of_beq_eq_false rfl))
            replace h53 := h53.pu hP12 (Or.inl (Nat.ne_of_beq_eq_false rfl))
            replace h10 := h10.pu hP12 (Or.inl ⟨Nat.ne_of_beq_eq_false rfl, Nat.ne_of_beq_eq_false rfl⟩)
            replace h55 := h55.pu hP12 (Or.inl (Nat.ne_of_beq_eq_false rfl))
            replace hm := hm.pu hP12 trivial
            replace hn := hn.pu hP12 trivial
            replace hb6 := hb6.pu hP12 trivial
            replace hy3 := hy3.pu hP12 trivial
            replace hA := hA.f1 hP12.fr (fun _ => Or.inr rfl)
            exact BW.ret rfl rfl (RdY.go pr (by omega) hA (by omega) h10 ⟨rfl, hm, ⟨p, h52, hp2.mono (fun _ z => z.1)⟩, ⟨sy, h53, hy3⟩, by exact h55, by exact h49, hK⟩)
      · refine RdY.fl (f := f) ?_ (hA.f2 hF6 (fun _ => Or.inl rfl) (fun z => absurd hbz z)) (by omega) hT6
        rcases e6 with e6 | ⟨pu, e6, e8⟩
        · rw [e6] at pr; exact pr
        · rw [e6] at pr
          dsimp only at pr
          rw [if_neg e8] at pr
          exact pr
      · cases pPut c (l2.length + 1) l2 with
        | inl f => rfl
        | inr z => obtain ⟨z1, z2⟩ := z; rfl
    · rintro f S2 r S' ⟨e4, hF2, hT2⟩
      rw [e4] at pr
      exact RdY.fl pr (hA.f1 hF2 (fun _ => Or.inl rfl)) (by omega) hT2
  · rintro f S1 r S' ⟨e1, hF1, hT1⟩
    have e3 : ¬ hd l = 47 ∧ f = l := by
      split at e1
      · cases e1
      · rename_i z; cases e1; exact ⟨z, rfl⟩
    refine RdY.fl (f := f) ?_ (hA.f1 hF1 (fun _ => Or.inl rfl)) (by omega) hT1
    unfold pRepl
    rw [if_neg e3.1, e3.2]
end RP
