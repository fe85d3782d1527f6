-- C
set_option maxRecDepth 100000
/-! THE READER: addresses -/
section AD
variable {d i a n q x b m c cap cap' c0 c1 st0 st1 cf : Nat} {b1 kd : Int} {M : GMeth} {ls : GL} {st : List GV} {xs xs' : List (Option Nat)} {ps qs : List SPart} {p : SPart} {s l l1 f acc : List Int} {S S0 S1 S' : BS} {F F' W : Nat → Prop} {Q : GO → BS → Prop} {y : Option Nat} {o : Obj} {r : Option Nat} {pt : SPat}
theorem pMore_x {k : Nat} {v : Int} {has : Bool} (h : ¬ (hd l = 43 ∨ hd l = 45)) : pMore k v has l = .inr (l, v, has) := by
  cases k <;> (unfold pMore; exact if_neg h)
theorem pMore_f {k : Nat} {v : Int} {has : Bool} (h : hd l = 43 ∨ hd l = 45) (e : pNum l.tail = .inl f) : pMore (k + 1) v has l = .inl f := by
  unfold pMore
  rw [if_pos h, e]
theorem pMore_s {k : Nat} {v x : Int} {has : Bool} (h : hd l = 43 ∨ hd l = 45) (e : pNum l.tail = .inr (l1, x)) : pMore (k + 1) v has l = pMore k (v + (if hd l = 43 then x else -x)) true l1 := by
  conv => lhs; unfold pMore
  rw [if_pos h, e]
theorem pSpot_dig (h : isDig (hd l) = true) : pSpot l = match pNum l with
    | .inl f => .inl f
    | .inr (l1, v) => .inr (l1, 48, v, noPat) := by
  unfold pSpot
  rw [if_pos h]
  cases pNum l <;> rfl
theorem pSpot_39 (h : hd l = 39) : pSpot l = if isMrk (hd l.tail) = true then .inr (l.tail.tail, 39, hd l.tail - 97, noPat) else .inl l.tail := by
  unfold pSpot
  rw [h, if_neg (by decide), if_pos rfl]
theorem pSpot_pat (h : hd l = 47 ∨ hd l = 63) : pSpot l = match patR (hd l) l.tail with
    | .inl f => .inl f
    | .inr (l1, _, pt) => .inr (l1, hd l, 0, pt) := by
  unfold pSpot patR
  have h1 : ¬ isDig (hd l) = true := by rcases h with h | h <;> (rw [h]; decide)
  have h2 : ¬ hd l = 39 := by omega
  have h3 : ¬ hd l = 0 := by omega
  rw [if_neg h1, if_neg h2, if_pos h]
  cases pPat (hd l) l.tail with
  | inl f => rfl
  | inr y =>
    obtain ⟨l2, c, pt⟩ := y
    dsimp only
    rw [if_neg h3]
    by_cases z : hd l2 = hd l
    · rw [if_pos z, if_pos z]
    · rw [if_neg z, if_neg z]
theorem pSpot_one (h : hd l = 46 ∨ hd l = 36) : pSpot l = .inr (l.tail, hd l, 0, noPat) := by
  unfold pSpot
  have h1 : ¬ isDig (hd l) = true := by rcases h with h | h <;> (rw [h]; decide)
  rw [if_neg h1, if_neg (by omega), if_neg (by omega), if_pos h]
theorem pSpot_no (h : ¬ isSpot (hd l) = true) : pSpot l = .inl l := by
  unfold pSpot
  rw [if_neg (fun z => h (isSpot_iff.mpr (Or.inl z))), if_neg (fun z => h (isSpot_iff.mpr (Or.inr (Or.inr (Or.inr (Or.inl z)))))), if_neg (fun z => h (isSpot_iff.mpr (z.elim (fun z => Or.inr (Or.inr (Or.inr (Or.inr (Or.inl z))))) (fun z => Or.inr (Or.inr (Or.inr (Or.inr (Or.inr z)))))))), if_neg (fun z => h (isSpot_iff.mpr (z.elim (fun z => Or.inr (Or.inl z)) (fun z => Or.inr (Or.inr (Or.inl z))))))]
theorem C_adrNew (hn : Ob S n (oOwn 2)) (h1000 : 1000 ≤ n) {k : Int} (hk : 0 ≤ k ∧ k < 65536) : BMr (d + 1) gk_X6_init [aR n, aI k] S (fun r S' => r = none ∧ Pu S S' 18 n ∧ Fi S' 18 n k) := by
  obtain ⟨H, fi, fr, t⟩ := S
  refine BMr.mono (B_adrNew (d := d) hn h1000 hk) (fun r' S' ⟨h1, h2⟩ => ⟨h1, ?_⟩)
  subst h2
  exact ⟨⟨rfl, rfl, fun F m h => ⟨if_neg (fun z => h.elim (fun w => w z.1) (fun w => w z.2)), rfl⟩⟩, if_pos ⟨rfl, rfl⟩⟩
theorem C_patternE {e : Int} (h : RdAt S n s l) (h32 : ∀ x ∈ s, 32 ≤ x) (he : 36 < e ∧ e < 64) (hl : l.length ≤ 200) (hT : S.2.2.2 < 700000000) : BM (d + 12) gk_X3_pattern [aR n, aI e] S (RdY n 300 s l S (fun m => m = n) (patR e l) (fun v w S' => ∃ p, w = vR (some p) ∧ PatIs S' (Nu S) p v.2 ∧ Fi S' 77 n v.1)) := by
  have := C_pattern (d := d) h h32 (Or.inr he) hl hT
  rw [if_neg (by omega)] at this
  exact this
theorem C_address (h : RdAt S n s l) (h32 : ∀ x ∈ s, 32 ≤ x) (hl : l.length ≤ 200) (hT : S.2.2.2 < 600000000) : BM (d + 13) gk_X3_address [aR n] S (RdY n 400 s l S (fun m => m = n) (pAdr l) (fun v w S' => ∃ a, w = vR (some a) ∧ AdrIs S' (Nu S) a v)) := by
  have hn := h.ob
  have hnS := hn
  have hAt := h.at
  have hR := h.R
  have hA := Fr.rf (S := S) (W := fun m => m = n)
  refine BM.of rfl rfl rfl ?_
  (repeat (refine BW.pl rfl rfl ?_))
  refine CW.e1 rfl rfl (by first | exact Or.inl rfl | exact Or.inr (tagO (by assumption) (by rfl) (by rfl))) (by first | exact Or.inl (by decide) | exact Or.inr ⟨_, rfl, by assumption⟩) rfl (B_look (d := d + 7) h) ?_
  (iterate 2 (refine BW.pl rfl rfl ?_))
  refine spTest2 (d := d) h rfl ?_
  by_cases zs : isSpot (hd l) = true
  · rw [if_pos zs]
    refine BW.must (d := d + 8) rfl rfl (by decide) (by decide) rfl h (Or.inr rfl) rfl (fun _ => ?_) (fun q S' w _ => absurd w (by decide))
    have hl0 : 0 ≤ lk l := by
      cases l with
      | nil => exact absurd zs (by decide)
      | cons y l' =>
        have := h32 y (h.mem List.mem_cons_self)
        show 0 ≤ y; omega
    refine CW.newO (L := 5) (c := 2) rfl rfl rfl rfl (fun a S1 hN => ?_)
    have haz := hA.nil hN.nil
    replace h := h.fr hN.fr ⟨NoS.no, Sep.no⟩
    replace hn := hn.fr hN.fr ⟨oNe rfl, Sep.no⟩
    replace hA := hA.nw hN
    have ha := hN.ob
    have hak := hN.1
    (repeat (refine BW.pl rfl rfl ?_))
    refine CW.e1 rfl rfl (by first | exact Or.inl rfl | exact Or.inr (tagO (by assumption) (by rfl) (by rfl))) (by first | exact Or.inl (by decide) | exact Or.inr ⟨_, rfl, by assumption⟩) rfl (B_digit (d := d + 6) h) ?_
    obtain ⟨kd, hkd, hkr⟩ : ∃ kd : Int, kd = (if isDig (hd l) = true then 48 else lk l) ∧ 0 ≤ kd ∧ kd < 128 := ⟨_, rfl, by split <;> omega⟩
    have at35 : ∀ Q, BW (d + 12) gm_X3_address 35 [some (aR n), some (aI (lk l)), none, none, none] [aI kd, aR a, aR a] S1 Q → BW (d + 12) gm_X3_address 30 [some (aR n), some (aI (lk l)), none, none, none] [aI (if isDig (hd l) = true then 1 else 0), aR a, aR a] S1 Q := by
      intro Q k
      by_cases z : isDig (hd l) = true
      · rw [if_pos z] at hkd ⊢
        subst hkd
        refine BW.br rfl rfl (by first | omega | decide | (constructor <;> first | omega | decide)) (fun w => by first | (exfalso; omega) | exact absurd w (by decide)) (fun w => ?_)
        (repeat (refine BW.pl rfl rfl ?_))
        exact k
      · rw [if_neg z] at hkd ⊢
        subst hkd
        refine BW.br rfl rfl (by first | omega | decide | (constructor <;> first | omega | decide)) (fun w => ?_) (fun w => by first | (exfalso; omega) | exact absurd w (by decide))
        (repeat (refine BW.pl rfl rfl ?_))
        refine BW.i2c rfl (by omega) ?_
        exact k
    refine at35 _ ?_
    refine CW.c2 rfl rfl (by first | exact Or.inl rfl | exact Or.inr (tagO (by assumption) (by rfl) (by rfl))) (by first | exact Or.inl (by decide) | exact Or.inr ⟨_, rfl, by assumption⟩) rfl (C_adrNew (d := d + 11) ha hak (by omega)) ?_
    rintro r S2 ⟨rfl, hP2, h18⟩
    have h19 : Fi S1 19 a 0 := (hN.2.2.2.2 19 (by decide)).1
    have h21 : Fi S1 21 a 0 := (hN.2.2.2.2 21 (by decide)).1
    have h22 : Fi S1 22 a 0 := (hN.2.2.2.2 22 (by decide)).1
    have h20 : Fe S1 20 a none := (hN.2.2.2.2 20 (by decide)).2
    replace h := h.pu hP2 (Or.inl ⟨Nat.ne_of_beq_eq_false rfl, Nat.ne_of_beq_eq_false rfl⟩)
    replace h19 := h19.pu hP2 (Or.inl (Nat.ne_of_beq_eq_false rfl))
    replace h21 := h21.pu hP2 (Or.inl (Nat.ne_of_beq_eq_false rfl))
    replace h22 := h22.pu hP2 (Or.inl (Nat.ne_of_beq_eq_false rfl))
    replace h20 := h20.pu hP2 (Or.inl (Nat.ne_of_beq_eq_false rfl))
    replace hn := hn.pu hP2 trivial
    replace ha := ha.pu hP2 trivial
    replace hA := hA.f1 hP2.fr (fun z => absurd haz z)
    have hAc := hA
    have ha2 := ha
    have hn2 := hn
    have hGa : ¬ Nu S2 a := Nu.not ha (oNe rfl)
    have hGn : ¬ Nu S2 n := Nu.not hn (oNe rfl)
    have loop : ∀ (k : Nat) (l3 : List Int) (nr v : Int) (has : Bool) (pt : SPat) (rp : Option Nat) (S7 : BS) (c7 : Nat) (v3 v4 : Option GV) (l7 : List Int), pSpot l = .inr (l7, kd, nr, pt) → pMore l7.length 0 false l7 = pMore k v has l3 → l3.length ≤ k → l3.length ≤ l.length → (-100 * (l.length - l3.length) ≤ v ∧ v ≤ 100 * (l.length - l3.length)) → RdAt S7 n s l3 → Ob S7 a (oOwn 2) → Fi S7 18 a kd → Fi S7 19 a nr → Fe S7 20 a rp → Fi S7 21 a v → Fi S7 22 a (b2i has) → PatO S7 (Nu S2) kd rp pt → Fr S S7 (fun m => m = n) c7 → c7 ≤ 600 * (l.length - l3.length) + 400 → BW (d + 12) gm_X3_address 72 [some (aR n), some (aI (lk l)), some (aR a), v3, v4] [] S7 (RdY n 400 s l S (fun m => m = n) (pAdr l) (fun v w S' => ∃ a, w = vR (some a) ∧ AdrIs S' (Nu S) a v)) := by
      have fin : ∀ (l3 : List Int) (nr v : Int) (has : Bool) (pt : SPat) (rp : Option Nat) (S7 : BS) (c7 k : Nat) (v3 v4 : Option GV) (l7 : List Int), ¬ (hd l3 = 43 ∨ hd l3 = 45) → pSpot l = .inr (l7, kd, nr, pt) → pMore l7.length 0 false l7 = pMore k v has l3 → l3.length ≤ l.length → RdAt S7 n s l3 → Ob S7 a (oOwn 2) → Fi S7 18 a kd → Fi S7 19 a nr → Fe S7 20 a rp → Fi S7 21 a v → Fi S7 22 a (b2i has) → PatO S7 (Nu S2) kd rp pt → Fr S S7 (fun m => m = n) c7 → c7 ≤ 600 * (l.length - l3.length) + 400 → BW (d + 12) gm_X3_address 72 [some (aR n), some (aI (lk l)), some (aR a), v3, v4] [] S7 (RdY n 400 s l S (fun m => m = n) (pAdr l) (fun v w S' => ∃ a, w = vR (some a) ∧ AdrIs S' (Nu S) a v)) := by
        intro l3 nr v has pt rp S7 c7 k v3 v4 l7 zz hsp hpm hl3 h ha h18 h19 h20 h21 h22 hpt hA hc7
        have hn := h.ob
        have hR7 := h.R
        have y1 : ¬ lk l3 = 43 := fun z => zz (Or.inl ((lk_hd (by decide)).mp z))
        have y2 : ¬ lk l3 = 45 := fun z => zz (Or.inr ((lk_hd (by decide)).mp z))
        (repeat (refine BW.pl rfl rfl ?_))
        refine CW.e1 rfl rfl (by first | exact Or.inl rfl | exact Or.inr (tagO (by assumption) (by rfl) (by rfl))) (by first | exact Or.inl (by decide) | exact Or.inr ⟨_, rfl, by assumption⟩) rfl (B_look (d := d + 7) h) ?_
        (repeat (refine BW.pl rfl rfl ?_))
        refine BW.br rfl rfl (by first | omega | decide | (constructor <;> first | omega | decide)) (fun w => by first | (exfalso; omega) | exact absurd w (by decide)) (fun w => ?_)
        (repeat (refine BW.pl rfl rfl ?_))
        refine CW.e1 rfl rfl (by first | exact Or.inl rfl | exact Or.inr (tagO (by assumption) (by rfl) (by rfl))) (by first | exact Or.inl (by decide) | exact Or.inr ⟨_, rfl, by assumption⟩) rfl (B_look (d := d + 7) h) ?_
        (repeat (refine BW.pl rfl rfl ?_))
        refine BW.br rfl rfl (by first | omega | decide | (constructor <;> first | omega | decide)) (fun w2 => ?_) (fun w2 => by first | (exfalso; omega) | exact absurd w2 (by decide))
        (repeat (refine BW.pl rfl rfl ?_))
        refine BW.aret rfl rfl (RdY.go (v := (kd, nr, pt, v, has)) (l1 := l3) ?_ hl3 hA hc7 h ⟨a, rfl, haz, ha, h18, h19, h21, h22, rp, h20, fun z => ?_⟩)
        · unfold pAdr
          rw [hsp]
          dsimp only
          rw [hpm, pMore_x zz]
        · exact (hpt.mono (fun m hm => hAc.nil hm)) z
      intro k
      induction k with
      | zero =>
        intro l3 nr v has pt rp S7 c7 v3 v4 l7 hsp hpm hk hl3 hv h ha h18 h19 h20 h21 h22 hpt hA hc7
        have hnil : l3 = [] := List.length_eq_zero_iff.mp (by omega)
        exact fin l3 nr v has pt rp S7 c7 0 v3 v4 l7 (by rw [hnil]; exact fun z => by rcases z with z | z <;> cases z) hsp hpm hl3 h ha h18 h19 h20 h21 h22 hpt hA hc7
      | succ k ih =>
        intro l3 nr v has pt rp S7 c7 v3 v4 l7 hsp hpm hk hl3 hv h ha h18 h19 h20 h21 h22 hpt hA hc7
        by_cases zz : hd l3 = 43 ∨ hd l3 = 45
        · obtain ⟨y, l4, rfl⟩ : ∃ y l4, l3 = y :: l4 := by
            cases l3 with
            | nil => rcases zz with z | z <;> cases z
            | cons y l4 => exact ⟨y, l4, rfl⟩
          have zz' : y = 43 ∨ y = 45 := zz
          have hlc : (y :: l4).length = l4.length + 1 := rfl
          have hn := h.ob
          have hR7 := h.R
          have h75 := h.fi
          have at80 : BW (d + 12) gm_X3_address 80 [some (aR n), some (aI (lk l)), some (aR a), v3, v4] [] S7 (RdY n 400 s l S (fun m => m = n) (pAdr l) (fun v w S' => ∃ a, w = vR (some a) ∧ AdrIs S' (Nu S) a v)) := by
            (repeat (refine BW.pl rfl rfl ?_))
            refine CW.c1 rfl rfl (by first | exact Or.inl rfl | exact Or.inr (tagO (by assumption) (by rfl) (by rfl))) (by first | exact Or.inl (by decide) | exact Or.inr ⟨_, rfl, by assumption⟩) rfl (C_next (d := d + 7) h) ?_
            rintro r S8 ⟨rfl, hP8, h8⟩
            replace h19 := h19.pu hP8 (Or.inl (Nat.ne_of_beq_eq_false rfl))
            replace h21 := h21.pu hP8 (Or.inl (Nat.ne_of_beq_eq_false rfl))
            replace h22 := h22.pu hP8 (Or.inl (Nat.ne_of_beq_eq_false rfl))
            replace h20 := h20.pu hP8 (Or.inl (Nat.ne_of_beq_eq_false rfl))
            replace h18 := h18.pu hP8 (Or.inl (Nat.ne_of_beq_eq_false rfl))
            replace hpt := hpt.pu hP8 hGn
            replace hn := hn.pu hP8 trivial
            replace ha := ha.pu hP8 trivial
            replace hA := hA.f1 hP8.fr (fun _ => rfl)
            (repeat (refine BW.pl rfl rfl ?_))
            obtain ⟨pl, hpl, hpl2⟩ : ∃ pl : Int, pl = (if y = 43 then 1 else 0) ∧ (pl = 0 ∨ pl = 1) := ⟨_, rfl, by split <;> simp⟩
            have at87 : ∀ Q, BW (d + 12) gm_X3_address 87 [some (aR n), some (aI (lk l)), some (aR a), v3, v4] [aI pl] S8 Q → BW (d + 12) gm_X3_address 83 [some (aR n), some (aI (lk l)), some (aR a), v3, v4] [aI 43, aI y] S8 Q := by
              intro Q k
              by_cases z : y = 43
              · rw [if_pos z] at hpl
                subst hpl
                refine BW.br rfl rfl (by first | omega | decide | (constructor <;> first | omega | decide)) (fun w => by first | (exfalso; omega) | exact absurd w (by decide)) (fun w => ?_)
                (repeat (refine BW.pl rfl rfl ?_))
                exact k
              · rw [if_neg z] at hpl
                subst hpl
                refine BW.br rfl rfl (by first | omega | decide | (constructor <;> first | omega | decide)) (fun w => ?_) (fun w => by first | (exfalso; omega) | exact absurd w (by decide))
                (repeat (refine BW.pl rfl rfl ?_))
                exact k
            refine at87 _ ?_
            refine BW.sti rfl rfl ?_
            (repeat (refine BW.pl rfl rfl ?_))
            refine CW.r1 rfl rfl (by first | exact Or.inl rfl | exact Or.inr (tagO (by assumption) (by rfl) (by rfl))) (by first | exact Or.inl (by decide) | exact Or.inr ⟨_, rfl, by assumption⟩) rfl rfl (C_number (d := d + 5) h8) ?_ ?_
            · rintro l5 x w5 S9 ⟨e1, e2, hF9, h9, rfl, hP9⟩
              obtain ⟨x0, x1⟩ := pNum_R e1
              have e3 := pNum_len e1
              replace h19 := h19.pu hP9 (Or.inl (Nat.ne_of_beq_eq_false rfl))
              replace h21 := h21.pu hP9 (Or.inl (Nat.ne_of_beq_eq_false rfl))
              replace h22 := h22.pu hP9 (Or.inl (Nat.ne_of_beq_eq_false rfl))
              replace h20 := h20.pu hP9 (Or.inl (Nat.ne_of_beq_eq_false rfl))
              replace h18 := h18.pu hP9 (Or.inl (Nat.ne_of_beq_eq_false rfl))
              replace hpt := hpt.pu hP9 hGn
              replace hn := hn.pu hP9 trivial
              replace ha := ha.pu hP9 trivial
              replace hA := hA.f1 hP9.fr (fun _ => rfl)
              refine BW.sti rfl rfl ?_
              (repeat (first | (refine BW.pl rfl rfl ?_) | (refine CW.geti rfl rfl (by assumption) rfl rfl (by assumption) (fun _ => ?_)) | (refine CW.getr rfl rfl (by assumption) rfl rfl (by assumption) ?_)))
              have hpl3 : ∀ Q, BW (d + 12) gm_X3_address 100 [some (aR n), some (aI (lk l)), some (aR a), some (aI pl), some (aI x)] [aI (if y = 43 then x else -x), aI v, aR a] S9 Q → BW (d + 12) gm_X3_address 95 [some (aR n), some (aI (lk l)), some (aR a), some (aI pl), some (aI x)] [aI pl, aI v, aR a] S9 Q := by
                intro Q k
                by_cases z : y = 43
                · rw [if_pos z] at hpl k
                  subst hpl
                  refine BW.br rfl rfl (by first | omega | decide | (constructor <;> first | omega | decide)) (fun w => by first | (exfalso; omega) | exact absurd w (by decide)) (fun w => ?_)
                  (iterate 2 (refine BW.pl rfl rfl ?_))
                  exact k
                · rw [if_neg z] at hpl k
                  subst hpl
                  refine BW.br rfl rfl (by first | omega | decide | (constructor <;> first | omega | decide)) (fun w => ?_) (fun w => by first | (exfalso; omega) | exact absurd w (by decide))
                  (iterate 2 (refine BW.pl rfl rfl ?_))
                  exact k
              refine hpl3 _ ?_
              (repeat (refine BW.pl rfl rfl ?_))
              have hx2 : -99 ≤ (if y = 43 then x else -x) ∧ (if y = 43 then x else -x) ≤ 99 := by split <;> omega
              obtain ⟨x3, hx3⟩ : ∃ x3, x3 = (if y = 43 then x else -x) := ⟨_, rfl⟩
              rw [← hx3] at hx2 ⊢
              first | (refine CW.putr rfl rfl (by assumption) rfl (by decide) (fun S10 hP10 h21 => ?_)) | (refine CW.puti rfl (by assumption) rfl (by decide) (by first | exact Or.inl ⟨rfl, by first | omega | decide | (constructor <;> first | omega | decide)⟩ | exact Or.inr (Or.inl ⟨rfl, by first | omega | decide | (constructor <;> first | omega | decide)⟩) | exact Or.inr (Or.inr (Or.inl ⟨rfl, by first | omega | decide | (constructor <;> first | omega | decide)⟩)) | exact Or.inr (Or.inr (Or.inr ⟨rfl, by first | omega | decide | (constructor <;> first | omega | decide)⟩))) (fun S10 hP10 h21 => ?_))
              replace h19 := h19.pu hP10 (Or.inl (Nat.ne_of_beq_eq_false rfl))
              replace h22 := h22.pu hP10 (Or.inl (Nat.ne_of_beq_eq_false rfl))
              replace h20 := h20.pu hP10 (Or.inl (Nat.ne_of_beq_eq_false rfl))
              replace h18 := h18.pu hP10 (Or.inl (Nat.ne_of_beq_eq_false rfl))
              replace hpt := hpt.pu hP10 hGa
              replace h9 := h9.pu hP10 (Or.inl ⟨Nat.ne_of_beq_eq_false rfl, Nat.ne_of_beq_eq_false rfl⟩)
              replace hn := hn.pu hP10 trivial
              replace ha := ha.pu hP10 trivial
              replace hA := hA.f1 hP10.fr (fun z => absurd haz z)
              (repeat (refine BW.pl rfl rfl ?_))
              first | (refine CW.putr rfl rfl (by assumption) rfl (by decide) (fun S11 hP11 h22 => ?_)) | (refine CW.puti rfl (by assumption) rfl (by decide) (by first | exact Or.inl ⟨rfl, by first | omega | decide | (constructor <;> first | omega | decide)⟩ | exact Or.inr (Or.inl ⟨rfl, by first | omega | decide | (constructor <;> first | omega | decide)⟩) | exact Or.inr (Or.inr (Or.inl ⟨rfl, by first | omega | decide | (constructor <;> first | omega | decide)⟩)) | exact Or.inr (Or.inr (Or.inr ⟨rfl, by first | omega | decide | (constructor <;> first | omega | decide)⟩))) (fun S11 hP11 h22 => ?_))
              replace h19 := h19.pu hP11 (Or.inl (Nat.ne_of_beq_eq_false rfl))
              replace h20 := h20.pu hP11 (Or.inl (Nat.ne_of_beq_eq_false rfl))
              replace h18 := h18.pu hP11 (Or.inl (Nat.ne_of_beq_eq_false rfl))
              replace hpt := hpt.pu hP11 hGa
              replace h9 := h9.pu hP11 (Or.inl ⟨Nat.ne_of_beq_eq_false rfl, Nat.ne_of_beq_eq_false rfl⟩)
              replace h21 := h21.pu hP11 (Or.inl (Nat.ne_of_beq_eq_false rfl))
              replace hn := hn.pu hP11 trivial
              replace ha := ha.pu hP11 trivial
              replace hA := hA.f1 hP11.fr (fun z => absurd haz z)
              (iterate 1 (refine BW.pl rfl rfl ?_))
              refine ih l5 nr (v + x3) true pt rp S11 _ (some (aI pl)) (some (aI x)) l7 hsp ?_ (by omega) (by omega) (by omega) h9 ha h18 h19 h20 h21 (by exact h22) hpt hA (by omega)
              rw [hpm, pMore_s zz e1, hx3]; rfl
            · rintro f S9 r S' ⟨e1, hF9, hT9⟩
              refine RdY.fl (f := f) ?_ (hA.f1 hF9 (fun _ => rfl)) (by omega) hT9
              unfold pAdr
              rw [hsp]
              dsimp only
              rw [hpm, pMore_f zz e1]
          (repeat (refine BW.pl rfl rfl ?_))
          refine CW.e1 rfl rfl (by first | exact Or.inl rfl | exact Or.inr (tagO (by assumption) (by rfl) (by rfl))) (by first | exact Or.inl (by decide) | exact Or.inr ⟨_, rfl, by assumption⟩) rfl (B_look (d := d + 7) h) ?_
          (repeat (refine BW.pl rfl rfl ?_))
          by_cases y1 : lk (y :: l4) = 43
          · refine BW.br rfl rfl (by first | omega | decide | (constructor <;> first | omega | decide)) (fun w => ?_) (fun w => by first | (exfalso; omega) | exact absurd w (by decide))
            exact at80
          · refine BW.br rfl rfl (by first | omega | decide | (constructor <;> first | omega | decide)) (fun w => by first | (exfalso; omega) | exact absurd w (by decide)) (fun w => ?_)
            (repeat (refine BW.pl rfl rfl ?_))
            refine CW.e1 rfl rfl (by first | exact Or.inl rfl | exact Or.inr (tagO (by assumption) (by rfl) (by rfl))) (by first | exact Or.inl (by decide) | exact Or.inr ⟨_, rfl, by assumption⟩) rfl (B_look (d := d + 7) h) ?_
            (repeat (refine BW.pl rfl rfl ?_))
            have y2 : lk (y :: l4) = 45 := by rcases zz' with z | z; exact absurd z y1; exact z
            refine BW.br rfl rfl (by first | omega | decide | (constructor <;> first | omega | decide)) (fun w2 => by first | (exfalso; omega) | exact absurd w2 (by decide)) (fun w2 => ?_)
            exact at80
        · exact fin l3 nr v has pt rp S7 c7 (k + 1) v3 v4 l7 zz hsp hpm hl3 h ha h18 h19 h20 h21 h22 hpt hA hc7
    (repeat (refine BW.pl rfl rfl ?_))
    refine CW.e1 rfl rfl (by first | exact Or.inl rfl | exact Or.inr (tagO (by assumption) (by rfl) (by rfl))) (by first | exact Or.inl (by decide) | exact Or.inr ⟨_, rfl, by assumption⟩) rfl (B_digit (d := d + 6) h) ?_
    by_cases zd : isDig (hd l) = true
    · rw [if_pos zd] at hkd ⊢
      refine BW.br rfl rfl (by first | omega | decide | (constructor <;> first | omega | decide)) (fun w => by first | (exfalso; omega) | exact absurd w (by decide)) (fun w => ?_)
      (repeat (refine BW.pl rfl rfl ?_))
      refine CW.r1 rfl rfl (by first | exact Or.inl rfl | exact Or.inr (tagO (by assumption) (by rfl) (by rfl))) (by first | exact Or.inl (by decide) | exact Or.inr ⟨_, rfl, by assumption⟩) rfl rfl (C_number (d := d + 5) h) ?_ ?_
      · rintro l5 x w5 S9 ⟨e1, e2, hF9, h9, rfl, hP9⟩
        obtain ⟨x0, x1⟩ := pNum_R e1
        have e3 := pNum_len e1
        replace h19 := h19.pu hP9 (Or.inl (Nat.ne_of_beq_eq_false rfl))
        replace h21 := h21.pu hP9 (Or.inl (Nat.ne_of_beq_eq_false rfl))
        replace h22 := h22.pu hP9 (Or.inl (Nat.ne_of_beq_eq_false rfl))
        replace h20 := h20.pu hP9 (Or.inl (Nat.ne_of_beq_eq_false rfl))
        replace h18 := h18.pu hP9 (Or.inl (Nat.ne_of_beq_eq_false rfl))
        replace hn := hn.pu hP9 trivial
        replace ha := ha.pu hP9 trivial
        replace hA := hA.f1 hP9.fr (fun _ => rfl)
        (repeat (refine BW.pl rfl rfl ?_))
        first | (refine CW.putr rfl rfl (by assumption) rfl (by decide) (fun S10 hP10 h19 => ?_)) | (refine CW.puti rfl (by assumption) rfl (by decide) (by first | exact Or.inl ⟨rfl, by first | omega | decide | (constructor <;> first | omega | decide)⟩ | exact Or.inr (Or.inl ⟨rfl, by first | omega | decide | (constructor <;> first | omega | decide)⟩) | exact Or.inr (Or.inr (Or.inl ⟨rfl, by first | omega | decide | (constructor <;> first | omega | decide)⟩)) | exact Or.inr (Or.inr (Or.inr ⟨rfl, by first | omega | decide | (constructor <;> first | omega | decide)⟩))) (fun S10 hP10 h19 => ?_))
        replace h21 := h21.pu hP10 (Or.inl (Nat.ne_of_beq_eq_false rfl))
        replace h22 := h22.pu hP10 (Or.inl (Nat.ne_of_beq_eq_false rfl))
        replace h20 := h20.pu hP10 (Or.inl (Nat.ne_of_beq_eq_false rfl))
        replace h18 := h18.pu hP10 (Or.inl (Nat.ne_of_beq_eq_false rfl))
        replace h9 := h9.pu hP10 (Or.inl ⟨Nat.ne_of_beq_eq_false rfl, Nat.ne_of_beq_eq_false rfl⟩)
        replace hn := hn.pu hP10 trivial
        replace ha := ha.pu hP10 trivial
        replace hA := hA.f1 hP10.fr (fun z => absurd haz z)
        (iterate 1 (refine BW.pl rfl rfl ?_))
        refine loop l5.length l5 x 0 false noPat none S10 _ none none l5 ?_ rfl (Nat.le_refl _) e2 (by omega) h9 ha h18 h19 h20 h21 h22 (fun z => by omega) hA (by omega)
        rw [pSpot_dig zd, e1, hkd]
      · rintro f S9 r S' ⟨e1, hF9, hT9⟩
        refine RdY.fl (f := f) ?_ (hA.f1 hF9 (fun _ => rfl)) (by omega) hT9
        unfold pAdr
        rw [pSpot_dig zd, e1]
    · rw [if_neg zd] at hkd ⊢
      obtain ⟨y, l1, rfl⟩ : ∃ y l1, l = y :: l1 := by
        cases l with
        | nil => exact absurd zs (by decide)
        | cons y l1 => exact ⟨y, l1, rfl⟩
      have hlc : (y :: l1).length = l1.length + 1 := rfl
      have h75 := h.fi
      have hky : kd = y := hkd
      have zy := isSpot_iff.mp zs
      refine BW.br rfl rfl (by first | omega | decide | (constructor <;> first | omega | decide)) (fun w => ?_) (fun w => by first | (exfalso; omega) | exact absurd w (by decide))
      (repeat (first | (refine BW.pl rfl rfl ?_) | (refine CW.geti rfl rfl (by assumption) rfl rfl (by assumption) (fun _ => ?_)) | (refine CW.getr rfl rfl (by assumption) rfl rfl (by assumption) ?_)))
      first | (refine CW.putr rfl rfl (by assumption) rfl (by decide) (fun S3 hP3 h75 => ?_)) | (refine CW.puti rfl (by assumption) rfl (by decide) (by first | exact Or.inl ⟨rfl, by first | omega | decide | (constructor <;> first | omega | decide)⟩ | exact Or.inr (Or.inl ⟨rfl, by first | omega | decide | (constructor <;> first | omega | decide)⟩) | exact Or.inr (Or.inr (Or.inl ⟨rfl, by first | omega | decide | (constructor <;> first | omega | decide)⟩)) | exact Or.inr (Or.inr (Or.inr ⟨rfl, by first | omega | decide | (constructor <;> first | omega | decide)⟩))) (fun S3 hP3 h75 => ?_))
      replace h19 := h19.pu hP3 (Or.inl (Nat.ne_of_beq_eq_false rfl))
      replace h21 := h21.pu hP3 (Or.inl (Nat.ne_of_beq_eq_false rfl))
      replace h22 := h22.pu hP3 (Or.inl (Nat.ne_of_beq_eq_false rfl))
      replace h20 := h20.pu hP3 (Or.inl (Nat.ne_of_beq_eq_false rfl))
      replace h18 := h18.pu hP3 (Or.inl (Nat.ne_of_beq_eq_false rfl))
      replace hn := hn.pu hP3 trivial
      replace ha := ha.pu hP3 trivial
      replace hA := hA.f1 hP3.fr (fun _ => rfl)
      have h := h.on hP3 h75 (by omega)
      (repeat (refine BW.pl rfl rfl ?_))
      by_cases z39 : lk (y :: l1) = 39
      · refine BW.br rfl rfl (by first | omega | decide | (constructor <;> first | omega | decide)) (fun w2 => by first | (exfalso; omega) | exact absurd w2 (by decide)) (fun w2 => ?_)
        (repeat (refine BW.pl rfl rfl ?_))
        refine CW.r3 rfl rfl (by first | exact Or.inl rfl | exact Or.inr (tagO (by assumption) (by rfl) (by rfl))) (by first | exact Or.inl (by decide) | exact Or.inr ⟨_, rfl, by assumption⟩) rfl rfl (C_letter (d := d + 6) h ⟨by decide, by decide⟩ ⟨by decide, by decide⟩) ?_ ?_
        · rintro l5 x w5 S9 ⟨e1, e2, hF9, h9, rfl, hP9⟩
          have e3 : isMrk (hd l1) = true ∧ l1 ≠ [] ∧ l5 = l1.tail ∧ x = hd l1 - 97 := by
            split at e1
            · rename_i z; cases e1; exact ⟨decide_eq_true ⟨z.1, z.2.1⟩, z.2.2, rfl, rfl⟩
            · cases e1
          obtain ⟨e3, e4, e5, e6⟩ := e3
          have e7 : 97 ≤ hd l1 ∧ hd l1 ≤ 101 := of_decide_eq_true e3
          replace h19 := h19.pu hP9 (Or.inl (Nat.ne_of_beq_eq_false rfl))
          replace h21 := h21.pu hP9 (Or.inl (Nat.ne_of_beq_eq_false rfl))
          replace h22 := h22.pu hP9 (Or.inl (Nat.ne_of_beq_eq_false rfl))
          replace h20 := h20.pu hP9 (Or.inl (Nat.ne_of_beq_eq_false rfl))
          replace h18 := h18.pu hP9 (Or.inl (Nat.ne_of_beq_eq_false rfl))
          replace hn := hn.pu hP9 trivial
          replace ha := ha.pu hP9 trivial
          replace hA := hA.f1 hP9.fr (fun _ => rfl)
          (repeat (refine BW.pl rfl rfl ?_))
          first | (refine CW.putr rfl rfl (by assumption) rfl (by decide) (fun S10 hP10 h19 => ?_)) | (refine CW.puti rfl (by assumption) rfl (by decide) (by first | exact Or.inl ⟨rfl, by first | omega | decide | (constructor <;> first | omega | decide)⟩ | exact Or.inr (Or.inl ⟨rfl, by first | omega | decide | (constructor <;> first | omega | decide)⟩) | exact Or.inr (Or.inr (Or.inl ⟨rfl, by first | omega | decide | (constructor <;> first | omega | decide)⟩)) | exact Or.inr (Or.inr (Or.inr ⟨rfl, by first | omega | decide | (constructor <;> first | omega | decide)⟩))) (fun S10 hP10 h19 => ?_))
          replace h21 := h21.pu hP10 (Or.inl (Nat.ne_of_beq_eq_false rfl))
          replace h22 := h22.pu hP10 (Or.inl (Nat.ne_of_beq_eq_false rfl))
          replace h20 := h20.pu hP10 (Or.inl (Nat.ne_of_beq_eq_false rfl))
          replace h18 := h18.pu hP10 (Or.inl (Nat.ne_of_beq_eq_false rfl))
          replace h9 := h9.pu hP10 (Or.inl ⟨Nat.ne_of_beq_eq_false rfl, Nat.ne_of_beq_eq_false rfl⟩)
          replace hn := hn.pu hP10 trivial
          replace ha := ha.pu hP10 trivial
          replace hA := hA.f1 hP10.fr (fun z => absurd haz z)
          (iterate 1 (refine BW.pl rfl rfl ?_))
          refine loop l5.length l5 x 0 false noPat none S10 _ none none l5 ?_ rfl (Nat.le_refl _) (by omega) (by omega) h9 ha h18 h19 h20 h21 h22 (fun z => by have z39 : y = 39 := z39; omega) hA (by omega)
          rw [pSpot_39 (show hd (y :: l1) = 39 from z39), List.tail_cons, if_pos e3, e5, e6, hkd]
          rw [z39]
        · rintro f S9 r S' ⟨e1, hF9, hT9⟩
          have e3 : ¬ isMrk (hd l1) = true ∧ f = l1 := by
            split at e1
            · cases e1
            · rename_i z; cases e1; refine ⟨fun w => z ?_, rfl⟩; have := of_decide_eq_true w; exact ⟨this.1, this.2, fun q => by rw [q] at this; exact absurd this.1 (by decide)⟩
          refine RdY.fl (f := f) ?_ (hA.f1 hF9 (fun _ => rfl)) (by omega) hT9
          unfold pAdr
          rw [pSpot_39 (show hd (y :: l1) = 39 from z39), List.tail_cons, if_neg e3.1, e3.2]
      · refine BW.br rfl rfl (by first | omega | decide | (constructor <;> first | omega | decide)) (fun w2 => ?_) (fun w2 => by first | (exfalso; omega) | exact absurd w2 (by decide))
        have z39' : y ≠ 39 := z39
        have hls : lk (y :: l1) = y := rfl
        by_cases zp : y = 47 ∨ y = 63
        · have at67 : ∀ Q, BW (d + 12) gm_X3_address 67 [some (aR n), some (aI (lk (y :: l1))), some (aR a), none, none] [] S3 Q → BW (d + 12) gm_X3_address 61 [some (aR n), some (aI (lk (y :: l1))), some (aR a), none, none] [] S3 Q := by
            intro Q k
            (repeat (refine BW.pl rfl rfl ?_))
            by_cases z : y = 47
            · refine BW.br rfl rfl (by first | omega | decide | (constructor <;> first | omega | decide)) (fun w3 => ?_) (fun w3 => by first | (exfalso; omega) | exact absurd w3 (by decide))
              exact k
            · refine BW.br rfl rfl (by first | omega | decide | (constructor <;> first | omega | decide)) (fun w3 => by first | (exfalso; omega) | exact absurd w3 (by decide)) (fun w3 => ?_)
              (repeat (refine BW.pl rfl rfl ?_))
              refine BW.br rfl rfl (by first | omega | decide | (constructor <;> first | omega | decide)) (fun w4 => by first | (exfalso; omega) | exact absurd w4 (by decide)) (fun w4 => ?_)
              exact k
          refine at67 _ ?_
          have hAu := hA.t
          (repeat (refine BW.pl rfl rfl ?_))
          refine CW.r2 rfl rfl (by first | exact Or.inl rfl | exact Or.inr (tagO (by assumption) (by rfl) (by rfl))) (by first | exact Or.inl (by decide) | exact Or.inr ⟨_, rfl, by assumption⟩) rfl rfl (C_patternE (d := d) h h32 (show 36 < lk (y :: l1) ∧ lk (y :: l1) < 64 by omega) (by omega) (by omega)) ?_ ?_
          · rintro l5 v w5 S9 ⟨e1, e2, hF9, h9, p, rfl, hp9, -⟩
            obtain ⟨c, pt⟩ := v
            have hpt : PatO S9 (Nu S2) kd (some p) pt := fun _ => ⟨p, rfl, hp9.mono (fun m hm => by
              have e := hP3.1
              show S2.1 m = oNil
              rw [← e]; exact hm)⟩
            replace h19 := h19.fr hF9 ⟨⟨ha.old (oNe rfl), Nat.le_of_ble_eq_true rfl⟩, (Sep.ne (ha.ne hn (ownNe rfl)))⟩
            replace h21 := h21.fr hF9 ⟨⟨ha.old (oNe rfl), Nat.le_of_ble_eq_true rfl⟩, (Sep.ne (ha.ne hn (ownNe rfl)))⟩
            replace h22 := h22.fr hF9 ⟨⟨ha.old (oNe rfl), Nat.le_of_ble_eq_true rfl⟩, (Sep.ne (ha.ne hn (ownNe rfl)))⟩
            replace h20 := h20.fr hF9 ⟨⟨ha.old (oNe rfl), Nat.le_of_ble_eq_true rfl⟩, (Sep.ne (ha.ne hn (ownNe rfl)))⟩
            replace h18 := h18.fr hF9 ⟨⟨ha.old (oNe rfl), Nat.le_of_ble_eq_true rfl⟩, (Sep.ne (ha.ne hn (ownNe rfl)))⟩
            replace ha := ha.fr hF9 ⟨oNe rfl, (Sep.ne (ha.ne hn (ownNe rfl)))⟩
            replace hA := hA.f1 hF9 (fun _ => rfl)
            have hn := h9.ob
            (repeat (refine BW.pl rfl rfl ?_))
            first | (refine CW.putr rfl rfl (by assumption) rfl (by decide) (fun S10 hP10 h20 => ?_)) | (refine CW.puti rfl (by assumption) rfl (by decide) (by first | exact Or.inl ⟨rfl, by first | omega | decide | (constructor <;> first | omega | decide)⟩ | exact Or.inr (Or.inl ⟨rfl, by first | omega | decide | (constructor <;> first | omega | decide)⟩) | exact Or.inr (Or.inr (Or.inl ⟨rfl, by first | omega | decide | (constructor <;> first | omega | decide)⟩)) | exact Or.inr (Or.inr (Or.inr ⟨rfl, by first | omega | decide | (constructor <;> first | omega | decide)⟩))) (fun S10 hP10 h20 => ?_))
            replace h19 := h19.pu hP10 (Or.inl (Nat.ne_of_beq_eq_false rfl))
            replace h21 := h21.pu hP10 (Or.inl (Nat.ne_of_beq_eq_false rfl))
            replace h22 := h22.pu hP10 (Or.inl (Nat.ne_of_beq_eq_false rfl))
            replace h18 := h18.pu hP10 (Or.inl (Nat.ne_of_beq_eq_false rfl))
            replace h9 := h9.pu hP10 (Or.inl ⟨Nat.ne_of_beq_eq_false rfl, Nat.ne_of_beq_eq_false rfl⟩)
            replace hpt := hpt.pu hP10 hGa
            replace ha := ha.pu hP10 trivial
            replace hn := hn.pu hP10 trivial
            replace hA := hA.f1 hP10.fr (fun z => absurd haz z)
            refine loop l5.length l5 0 0 false pt (some p) S10 _ none none l5 ?_ rfl (Nat.le_refl _) (by omega) (by omega) h9 ha h18 h19 h20 h21 h22 hpt hA (by omega)
            rw [pSpot_pat (show hd (y :: l1) = 47 ∨ hd (y :: l1) = 63 from zp), List.tail_cons]
            rw [show hd (y :: l1) = lk (y :: l1) from rfl, e1, hkd]
          · rintro f S9 r S' ⟨e1, hF9, hT9⟩
            refine RdY.fl (f := f) ?_ (hA.f1 hF9 (fun _ => rfl)) (by omega) hT9
            unfold pAdr
            rw [pSpot_pat (show hd (y :: l1) = 47 ∨ hd (y :: l1) = 63 from zp), List.tail_cons]
            rw [show hd (y :: l1) = lk (y :: l1) from rfl, e1]
        · have zq : y = 46 ∨ y = 36 := by
            rcases zy with z | z | z | z | z | z
            · exact absurd z zd
            · exact Or.inl z
            · exact Or.inr z
            · exact absurd z z39'
            · exact absurd (Or.inl z) zp
            · exact absurd (Or.inr z) zp
          (repeat (refine BW.pl rfl rfl ?_))
          refine BW.br rfl rfl (by first | omega | decide | (constructor <;> first | omega | decide)) (fun w3 => by first | (exfalso; omega) | exact absurd w3 (by decide)) (fun w3 => ?_)
          (repeat (refine BW.pl rfl rfl ?_))
          refine BW.br rfl rfl (by first | omega | decide | (constructor <;> first | omega | decide)) (fun w4 => ?_) (fun w4 => by first | (exfalso; omega) | exact absurd w4 (by decide))
          refine loop l1.length l1 0 0 false noPat none S3 _ none none l1 ?_ rfl (Nat.le_refl _) (by omega) (by omega) h ha h18 h19 h20 h21 h22 (fun z => by omega) hA (by omega)
          rw [pSpot_one (show hd (y :: l1) = 46 ∨ hd (y :: l1) = 36 from zq), List.tail_cons, hkd]; rfl
  · rw [if_neg zs]
    refine BW.must (d := d + 8) rfl rfl (by decide) (by decide) rfl h (Or.inl rfl) rfl (fun w => absurd w (by decide)) (fun q9 S9 _ hT9 => ?_)
    refine RdY.fl (f := l) ?_ Fr.rf (Nat.zero_le _) hT9
    unfold pAdr
    rw [pSpot_no zs]
end AD
