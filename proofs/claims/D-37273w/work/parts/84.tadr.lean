set_option maxRecDepth 100000
/-! the twin's addresses and ranges -/
abbrev fL : List Nat := [33, 34, 35, 36, 37, 40, 41]
abbrev aLn : List Nat := [31, 32, 38, 39]
section TAdr
variable {d : Nat} {σ τ : TS} {s l l1 : List Int} {A : St} {fs as : List Nat}
theorem pMore_R : ∀ (n : Nat) (v : Int) (has : Bool) (l l1 : List Int) (v1 : Int) (has1 : Bool), pMore n v has l = .inr (l1, v1, has1) → v - 99 * n ≤ v1 ∧ v1 ≤ v + 99 * n := by
  intro n
  induction n with
  | zero =>
    intro v has l l1 v1 has1 h
    unfold pMore at h
    split at h
    · cases h
    · cases h; omega
  | succ n ih =>
    intro v has l l1 v1 has1 h
    unfold pMore at h
    split at h
    · dsimp only at h
      cases hp : pNum l.tail with
      | inl f => rw [hp] at h; cases h
      | inr q =>
        obtain ⟨l2, x⟩ := q
        rw [hp] at h
        have h1 := ih _ _ _ _ _ _ h
        have h2 := pNum_R9 hp
        split at h1 <;> omega
    · cases h; omega
theorem sAdr_pos {a : SAdr} {w : Nat} (h : sAdr A a = .inl w) : 1 ≤ w ∧ w ≤ 3 := by
  unfold sAdr at h
  cases hs : sSpot A a with
  | inl w1 =>
    rw [hs] at h
    cases h
    obtain ⟨t, p, hh, o, fi, mks, n, rp⟩ := A
    unfold sSpot at hs
    dsimp only at hs
    split at hs
    · cases hs
    split at hs
    · cases hs
    split at hs
    · split at hs
      · cases hs; omega
      · cases hs
    split at hs
    · cases hs
    split at hs
    · cases hs; omega
    · cases hs
  | inr v =>
    rw [hs] at h
    dsimp only at h
    split at h
    · cases h; omega
    · cases h
theorem sAdr_R {a : SAdr} {v : Nat} (h : sAdr A a = .inr v) : v ≤ A.1.length := by
  unfold sAdr at h
  cases hs : sSpot A a with
  | inl w1 => rw [hs] at h; cases h
  | inr x =>
    rw [hs] at h
    dsimp only at h
    split at h
    · cases h
    · cases h; omega
theorem linNo_R {t : List SLine} {x : Int} : linNo t x ≤ t.length := by
  unfold linNo
  split
  · rename_i k h
    have := (List.findIdx?_eq_some_iff_getElem.mp h).1
    omega
  · omega
theorem sSeekF_R {t : List SLine} {p : Nat} {pt : SPat} {back : Bool} : ∀ n k, t ≠ [] → sSeekF t p pt back n k ≤ t.length := by
  intro n
  induction n with
  | zero => intro k _; unfold sSeekF; omega
  | succ n ih =>
    intro k h0
    unfold sSeekF
    split
    · exact (sTurn_R (List.length_pos_iff.mpr h0)).2
    · exact ih _ h0
theorem sSeek_R {t : List SLine} {p : Nat} {pt : SPat} {back : Bool} : sSeek t p pt back ≤ t.length := by
  unfold sSeek
  by_cases h : t = []
  · subst h; unfold sSeekF; exact Nat.le_refl _
  · exact sSeekF_R _ _ h
def LinQ (σ : TS) (R : Nat ⊕ Nat) (r : Option Int) (τ : TS) : Prop := TFr fL aLn σ τ ∧ match R with
  | .inl w => r = some (-(w : Int))
  | .inr v => r = some (v : Int)
theorem T_line {x : Int} {a : SAdr} {l' : List Int} (hs : SgnIs σ s) (hA : TA A σ) (hw : WF A) (hx : Sfx s l x) (h : pAdr l = .inr (l', a)) (hnid : A.2.2.2.2.2.2.1 < 1000000) : TM (d + 8) tk_line [.inr 0, .inl x] σ (LinQ σ (sAdr A a)) := by
  obtain ⟨t, p, hh, ou, fi, mks, nid, rp⟩ := A
  have hAt : TextIs σ t := hA.1
  have hAp : (σ.1 16) = p := hA.2.1
  have hAm : MarksIs σ mks := hA.2.2.2.1
  have hw1 : p ≤ t.length ∧ (t ≠ [] → 1 ≤ p) := hw.1
  have h40 : t.length ≤ 40 := hAt.2.1
  have h60 := hs.2.1
  unfold pAdr at h
  cases hsp : pSpot l with
  | inl f => rw [hsp] at h; cases h
  | inr q =>
  obtain ⟨la, kd, nr, pt⟩ := q
  rw [hsp] at h
  dsimp only at h
  cases hmo : pMore la.length 0 false la with
  | inl f => rw [hmo] at h; cases h
  | inr q =>
  obtain ⟨lb, mo, has⟩ := q
  rw [hmo] at h
  dsimp only at h
  cases h
  refine TM.of rfl rfl ?_
  -- what is added
  have more : ∀ (n : Nat) (q : List Int) (y v acc : Int) (hs1 : Bool) (c3 : Int) (o5 : Option TV) (τ : TS) (sp : Int), sSpot (t, p, hh, ou, fi, mks, nid, rp) (kd, nr, pt, mo, has) = .inr sp → v = sp + acc → q.length ≤ n → -(100 * (60 - (n : Int))) ≤ v → v ≤ 100 * (61 - (n : Int)) → n ≤ 60 → Sfx s q y → pMore n acc hs1 q = .inr (l', mo, has) → TFr fL aLn σ τ → TW (d + 7) tc_line 79 [some (.inr 0), some (.inl x), some (.inl y), some (.inl c3), some (.inl v), o5] [] τ (LinQ σ (sAdr (t, p, hh, ou, fi, mks, nid, rp) (kd, nr, pt, mo, has))) := by
    intro n
    have fin : ∀ (q : List Int) (y v : Int) (c3 : Int) (o5 : Option TV) (τ : TS) (sp : Int), sSpot (t, p, hh, ou, fi, mks, nid, rp) (kd, nr, pt, mo, has) = .inr sp → v = sp + mo → inR v → TFr fL aLn σ τ → TW (d + 7) tc_line 123 [some (.inr 0), some (.inl x), some (.inl y), some (.inl c3), some (.inl v), o5] [] τ (LinQ σ (sAdr (t, p, hh, ou, fi, mks, nid, rp) (kd, nr, pt, mo, has))) := by
      intro q y v c3 o5 τ sp hsp hv hvR hf
      have hm : τ.1 12 = t.length := by rw [hf.1 12 (by decide)]; exact hAt.1
      unfold sAdr
      rw [hsp]
      dsimp only
      rw [← hv]
      (repeat (first | (refine TW.getf rfl rfl rfl (fun _ => ?_)) | (refine TW.pl rfl rfl ?_)))
      refine TW.br rfl rfl (by first | omega | exact b2i_R _ | exact ⟨b2i_R _, by omega⟩) (fun q1 => ?_) (fun q1 => ?_)
      · rw [if_pos (Or.inl q1)]
        (repeat (first | (refine TW.getf rfl rfl rfl (fun _ => ?_)) | (refine TW.pl rfl rfl ?_)))
        exact TW.iret rfl ⟨hf, rfl⟩
      (repeat (first | (refine TW.getf rfl rfl rfl (fun _ => ?_)) | (refine TW.pl rfl rfl ?_)))
      refine TW.br rfl rfl (by first | omega | exact b2i_R _ | exact ⟨b2i_R _, by omega⟩) (fun q2 => ?_) (fun q2 => ?_)
      · rw [if_neg (by omega)]
        (repeat (first | (refine TW.getf rfl rfl rfl (fun _ => ?_)) | (refine TW.pl rfl rfl ?_)))
        refine TW.iret rfl ⟨hf, ?_⟩
        show some v = some ((v.toNat : Nat) : Int)
        congr 1
        omega
      · rw [if_pos (Or.inr (by omega))]
        (repeat (first | (refine TW.getf rfl rfl rfl (fun _ => ?_)) | (refine TW.pl rfl rfl ?_)))
        exact TW.iret rfl ⟨hf, rfl⟩
    induction n with
    | zero =>
      intro q y v acc hs1 c3 o5 τ sp hsp hv hq hv1 hv2 hn hy hp hf
      have hq0 : q = [] := List.length_eq_zero_iff.mp (by omega)
      have hyl := hy.len
      have hnn : τ.1 22 = s.length := by rw [hf.1 22 (by decide)]; exact hs.1
      subst hq0
      unfold pMore at hp
      rw [if_neg (by decide)] at hp
      cases hp
      simp at hyl
      (repeat (first | (refine TW.getf rfl rfl rfl (fun _ => ?_)) | (refine TW.pl rfl rfl ?_)))
      refine TW.br rfl rfl (by first | omega | exact b2i_R _ | exact ⟨b2i_R _, by omega⟩) (fun q1 => ?_) (fun q1 => ?_)
      · exact fin [] y v c3 o5 τ sp hsp hv (by omega) hf
      · omega
    | succ n ih =>
      intro q y v acc hs1 c3 o5 τ sp hsp hv hq hv1 hv2 hn hy hp hf
      have hyl := hy.len
      have hnn : τ.1 22 = s.length := by rw [hf.1 22 (by decide)]; exact hs.1
      have hsτ := hs.fr hf (by decide) (by decide)
      unfold pMore at hp
      (repeat (first | (refine TW.getf rfl rfl rfl (fun _ => ?_)) | (refine TW.pl rfl rfl ?_)))
      refine TW.br rfl rfl (by first | omega | exact b2i_R _ | exact ⟨b2i_R _, by omega⟩) (fun q1 => ?_) (fun q1 => ?_)
      · have hq0 : q = [] := hy.nil_iff.mpr (by omega)
        subst hq0
        rw [if_neg (by decide)] at hp
        cases hp
        exact fin [] y v c3 o5 τ sp hsp hv (by omega) hf
      have hq0 : q ≠ [] := fun z => by have := hy.nil_iff.mp z; omega
      have ha := hsτ.at hy hq0
      have hy1 : Sfx s q.tail (y + 1) := hy.step hq0 rfl
      have go : (hd q = 43 ∨ hd q = 45) → TW (d + 7) tc_line 95 [some (.inr 0), some (.inl x), some (.inl y), some (.inl c3), some (.inl v), o5] [] τ (LinQ σ (sAdr (t, p, hh, ou, fi, mks, nid, rp) (kd, nr, pt, mo, has))) := by
        intro hc
        rw [if_pos hc] at hp
        dsimp only at hp
        cases hpn : pNum q.tail with
        | inl f => rw [hpn] at hp; cases hp
        | inr w =>
        obtain ⟨q2, z⟩ := w
        rw [hpn] at hp
        dsimp only at hp
        have hz := pNum_R9 hpn
        have hlt : q2.length ≤ n := by
          obtain ⟨_, _, e⟩ := pNum_out hpn
          rcases e with ⟨_, _, e, _⟩ | ⟨_, e, _⟩ <;> rw [e] <;> simp <;> omega
        (repeat (first | (refine TW.getf rfl rfl rfl (fun _ => ?_)) | (refine TW.pl rfl rfl ?_)))
        refine TW.iald (n := 60) rfl rfl rfl (by omega) (fun _ => ?_)
        rw [ha.1]
        (repeat (first | (refine TW.getf rfl rfl rfl (fun _ => ?_)) | (refine TW.pl rfl rfl ?_)))
        refine TW.br rfl rfl (by first | omega | exact b2i_R _ | exact ⟨b2i_R _, by omega⟩) (fun qb => ?_) (fun qb => ?_)
        · have h45 : hd q = 45 := by omega
          (repeat (first | (refine TW.getf rfl rfl rfl (fun _ => ?_)) | (refine TW.pl rfl rfl ?_)))
          refine TW.cv1 rfl rfl rfl (Nat.le_of_ble_eq_true rfl) (T_numberAt hsτ hy1 hpn) ?_; rintro _ _ ⟨rfl, rfl⟩
          (repeat (first | (refine TW.getf rfl rfl rfl (fun _ => ?_)) | (refine TW.pl rfl rfl ?_)))
          refine TW.cv1 rfl rfl rfl (Nat.le_of_ble_eq_true rfl) (T_behindNumber hsτ hy1 hpn) ?_
          rintro _ _ ⟨⟨y2, rfl, hy2⟩, rfl⟩
          (iterate 2 (first | (refine TW.getf rfl rfl rfl (fun _ => ?_)) | (refine TW.pl rfl rfl ?_)))
          rw [if_neg qb] at hp
          exact ih q2 y2 _ _ true c3 o5 _ sp hsp (by omega) hlt (by omega) (by omega) (by omega) hy2 hp hf
        · (repeat (first | (refine TW.getf rfl rfl rfl (fun _ => ?_)) | (refine TW.pl rfl rfl ?_)))
          refine TW.cv1 rfl rfl rfl (Nat.le_of_ble_eq_true rfl) (T_numberAt hsτ hy1 hpn) ?_; rintro _ _ ⟨rfl, rfl⟩
          (repeat (first | (refine TW.getf rfl rfl rfl (fun _ => ?_)) | (refine TW.pl rfl rfl ?_)))
          refine TW.cv1 rfl rfl rfl (Nat.le_of_ble_eq_true rfl) (T_behindNumber hsτ hy1 hpn) ?_
          rintro _ _ ⟨⟨y2, rfl, hy2⟩, rfl⟩
          (iterate 2 (first | (refine TW.getf rfl rfl rfl (fun _ => ?_)) | (refine TW.pl rfl rfl ?_)))
          rw [if_pos qb] at hp
          exact ih q2 y2 _ _ true c3 o5 _ sp hsp (by omega) hlt (by omega) (by omega) (by omega) hy2 hp hf
      (repeat (first | (refine TW.getf rfl rfl rfl (fun _ => ?_)) | (refine TW.pl rfl rfl ?_)))
      refine TW.iald (n := 60) rfl rfl rfl (by omega) (fun _ => ?_)
      rw [ha.1]
      (repeat (first | (refine TW.getf rfl rfl rfl (fun _ => ?_)) | (refine TW.pl rfl rfl ?_)))
      refine TW.br rfl rfl (by first | omega | exact b2i_R _ | exact ⟨b2i_R _, by omega⟩) (fun q2 => ?_) (fun q2 => ?_)
      · exact go (Or.inl q2)
      (repeat (first | (refine TW.getf rfl rfl rfl (fun _ => ?_)) | (refine TW.pl rfl rfl ?_)))
      refine TW.iald (n := 60) rfl rfl rfl (by omega) (fun _ => ?_)
      rw [ha.1]
      (repeat (first | (refine TW.getf rfl rfl rfl (fun _ => ?_)) | (refine TW.pl rfl rfl ?_)))
      refine TW.br rfl rfl (by first | omega | exact b2i_R _ | exact ⟨b2i_R _, by omega⟩) (fun q3 => ?_) (fun q3 => ?_)
      · rw [if_neg (by omega)] at hp
        cases hp
        exact fin l' y v c3 o5 τ sp hsp hv (by omega) hf
      · exact go (Or.inr (by omega))
  have hl0 : l ≠ [] := fun z => by rw [z] at hsp; have e : pSpot [] = .inl [] := rfl; rw [e] at hsp; cases hsp
  have ha := hs.at hx hl0
  have hx1 : Sfx s l.tail (x + 1) := hx.step hl0 rfl
  have hla : la.length ≤ 60 := by
    have h1 := pSpot_shr _ _ hsp
    have := hx.len
    omega
  -- from a spot on
  have spot : ∀ (y v c3 : Int) (o5 : Option TV) (τ : TS), sSpot (t, p, hh, ou, fi, mks, nid, rp) (kd, nr, pt, mo, has) = .inr v → 0 ≤ v → v ≤ 99 → Sfx s la y → TFr fL aLn σ τ → TW (d + 7) tc_line 79 [some (.inr 0), some (.inl x), some (.inl y), some (.inl c3), some (.inl v), o5] [] τ (LinQ σ (sAdr (t, p, hh, ou, fi, mks, nid, rp) (kd, nr, pt, mo, has))) := by
    intro y v c3 o5 τ hv h0 h1 hy hf
    exact more la.length la y v 0 false c3 o5 τ v hv (by omega) (Nat.le_refl _) (by omega) (by omega) hla hy hmo hf
  unfold pSpot at hsp
  (repeat (first | (refine TW.getf rfl rfl rfl (fun _ => ?_)) | (refine TW.pl rfl rfl ?_)))
  refine TW.iald (n := 60) rfl rfl rfl (by omega) (fun _ => ?_)
  rw [ha.1]
  (repeat (first | (refine TW.getf rfl rfl rfl (fun _ => ?_)) | (refine TW.pl rfl rfl ?_)))
  refine TW.cs1 rfl rfl rfl (Nat.le_of_ble_eq_true rfl) (T_isDigit (by omega)) ?_; rintro _ _ ⟨rfl, rfl⟩
  refine TW.br rfl rfl (by first | omega | exact b2i_R _ | exact ⟨b2i_R _, by omega⟩) (fun q1 => ?_) (fun q1 => ?_)
  · have hdg : isDig (hd l) = false := b2i_0 q1
    rw [if_neg (by rw [hdg]; decide)] at hsp
    (repeat (first | (refine TW.getf rfl rfl rfl (fun _ => ?_)) | (refine TW.pl rfl rfl ?_)))
    refine TW.br rfl rfl (by first | omega | exact b2i_R _ | exact ⟨b2i_R _, by omega⟩) (fun q2 => ?_) (fun q2 => ?_)
    · (repeat (first | (refine TW.getf rfl rfl rfl (fun _ => ?_)) | (refine TW.pl rfl rfl ?_)))
      refine TW.br rfl rfl (by first | omega | exact b2i_R _ | exact ⟨b2i_R _, by omega⟩) (fun q3 => ?_) (fun q3 => ?_)
      · rw [if_neg q3] at hsp
        (repeat (first | (refine TW.getf rfl rfl rfl (fun _ => ?_)) | (refine TW.pl rfl rfl ?_)))
        refine TW.br rfl rfl (by first | omega | exact b2i_R _ | exact ⟨b2i_R _, by omega⟩) (fun q4 => ?_) (fun q4 => ?_)
        · rw [if_neg (by omega), if_pos (Or.inl q4)] at hsp
          cases hsp
          rw [hAp]
          exact spot _ _ _ _ _ (by unfold sSpot; dsimp only; rw [if_neg (by omega), if_neg (by omega), if_neg (by omega), if_pos q4]) (by omega) (by omega) hx1 TFr.rf
        · by_cases hc : hd l = 47 ∨ hd l = 63
          · rw [if_pos hc] at hsp
            cases hpp : pPat (hd l) l.tail with
            | inl f => rw [hpp] at hsp; cases hsp
            | inr w =>
            obtain ⟨l2, g, pt2⟩ := w
            rw [hpp] at hsp
            dsimp only at hsp
            by_cases he : hd l2 = hd l
            · rw [if_pos he] at hsp
              cases hsp
              have hl2 : l2 ≠ [] := fun z => by rw [z] at he; have : (0 : Int) = hd l := he; omega
              have hok := pPat_ok hpp
              (repeat (first | (refine TW.getf rfl rfl rfl (fun _ => ?_)) | (refine TW.pl rfl rfl ?_)))
              refine TW.cv2 rfl rfl rfl (Nat.le_of_ble_eq_true rfl) (T_compile hs hx1 (by omega) hpp he) ?_
              rintro _ τ1 ⟨rfl, hf1, hcm, hbp⟩
              have hs1 := hs.fr hf1 (by decide) (by decide)
              have ht1 := hAt.fr (hf1.1 12 (by decide)) (hf1.2 6 (by decide)) (hf1.2 7 (by decide))
              have hp1 : τ1.1 16 = p := by rw [hf1.1 16 (by decide)]; exact hAp
              have hfA : TFr fL aLn σ τ1 := hf1.mono (by simp) (by simp)
              have go : ∀ (bk : Bool), bk = decide (hd l = 63) → TW (d + 7) tc_line 73 [some (.inr 0), some (.inl x), some (.inl (τ1.1 37 + 1)), some (.inl (hd l)), some (.inl (σ.1 16)), none] [.inl (b2i bk), .inr 0] τ1 (LinQ σ (sAdr (t, p, hh, ou, fi, mks, nid, rp) (hd l, 0, pt, mo, has))) := by
                intro bk hbk
                refine TW.cv1 rfl rfl rfl (Nat.le_of_ble_eq_true rfl) (T_seek hs1 hcm hok.1 ht1 hp1 hw1) ?_
                rintro _ τ2 ⟨rfl, hf2⟩
                have hf3 : TFr fL aLn σ τ2 := hfA.trans (hf2.mono (by simp) (by simp))
                have hsk := sSeek_R (t := t) (p := p) (pt := pt) (back := bk)
                (repeat (first | (refine TW.getf rfl rfl rfl (fun _ => ?_)) | (refine TW.pl rfl rfl ?_)))
                refine TW.br rfl rfl (by first | omega | exact b2i_R _ | exact ⟨b2i_R _, by omega⟩) (fun q5 => ?_) (fun q5 => ?_)
                · have e : sSpot (t, p, hh, ou, fi, mks, nid, rp) (hd l, 0, pt, mo, has) = .inr ((sSeek t p pt bk : Nat) : Int) := by
                    unfold sSpot
                    dsimp only
                    rw [if_neg (by omega), if_neg (by omega), if_neg (by omega), if_neg (by omega), ← hbk, if_neg (by omega)]
                  exact spot _ _ _ _ _ e (by omega) (by omega) (hbp.step hl2 rfl) hf3
                · have e : sAdr (t, p, hh, ou, fi, mks, nid, rp) (hd l, 0, pt, mo, has) = .inl 2 := by
                    unfold sAdr sSpot
                    dsimp only
                    rw [if_neg (by omega), if_neg (by omega), if_neg (by omega), if_neg (by omega), ← hbk, if_pos (by omega)]
                  rw [e]
                  (repeat (first | (refine TW.getf rfl rfl rfl (fun _ => ?_)) | (refine TW.pl rfl rfl ?_)))
                  exact TW.iret rfl ⟨hf3, rfl⟩
              (repeat (first | (refine TW.getf rfl rfl rfl (fun _ => ?_)) | (refine TW.pl rfl rfl ?_)))
              refine TW.br rfl rfl (by first | omega | exact b2i_R _ | exact ⟨b2i_R _, by omega⟩) (fun q5 => ?_) (fun q5 => ?_)
              · (repeat (first | (refine TW.getf rfl rfl rfl (fun _ => ?_)) | (refine TW.pl rfl rfl ?_)))
                exact go false (by rw [decide_eq_false q5])
              · (repeat (first | (refine TW.getf rfl rfl rfl (fun _ => ?_)) | (refine TW.pl rfl rfl ?_)))
                exact go true (by rw [decide_eq_true q5])
            · rw [if_neg he] at hsp
              cases hsp
          · rw [if_neg hc, if_neg (by omega)] at hsp
            cases hsp
      · rw [if_pos q3] at hsp
        by_cases hmk : isMrk (hd l.tail) = true
        · rw [if_pos hmk] at hsp
          cases hsp
          have hmR : 97 ≤ hd l.tail ∧ hd l.tail ≤ 101 := of_decide_eq_true hmk
          have ht0 : l.tail ≠ [] := fun z => by rw [z] at hmk; revert hmk; decide
          have hb := hs.at hx1 ht0
          have hmm := hAm (hd l.tail - 97).toNat (by omega)
          (repeat (first | (refine TW.getf rfl rfl rfl (fun _ => ?_)) | (refine TW.pl rfl rfl ?_)))
          refine TW.iald (n := 60) rfl rfl rfl (by omega) (fun _ => ?_)
          rw [hb.1]
          (repeat (first | (refine TW.getf rfl rfl rfl (fun _ => ?_)) | (refine TW.pl rfl rfl ?_)))
          refine TW.iald (n := 5) rfl rfl rfl (by omega) (fun _ => ?_)
          (repeat (first | (refine TW.getf rfl rfl rfl (fun _ => ?_)) | (refine TW.pl rfl rfl ?_)))
          refine TW.br rfl rfl (by first | omega | exact b2i_R _ | exact ⟨b2i_R _, by omega⟩) (fun q4 => ?_) (fun q4 => ?_)
          · cases hmv : mks (hd l.tail - 97).toNat with
            | none =>
              rw [hmm.1, hmv] at q4
              exact absurd q4 (by decide)
            | some id =>
              rw [hmm.1, hmv]
              have hid : 0 ≤ id := hmm.2 id hmv
              have hidR : id < 1000000 := by
                have := hw.2.2.2.2.1 _ _ hmv
                unfold idsOfL at this
                obtain ⟨q, hq, rfl⟩ := List.mem_map.mp this
                have := (hw.2.2.2.1 q hq).1.2
                exact Int.lt_trans this hnid
              show TW _ _ _ [some (.inr 0), some (.inl x), some (.inl (x + 1 + 1)), some (.inl (hd l)), some (.inl (σ.1 16)), some (.inl id)] [] _ _
              (repeat (first | (refine TW.getf rfl rfl rfl (fun _ => ?_)) | (refine TW.pl rfl rfl ?_)))
              refine TW.cv1 rfl rfl rfl (Nat.le_of_ble_eq_true rfl) (T_lineWith hAt (by omega)) ?_; rintro _ _ ⟨rfl, rfl⟩
              have hln := linNo_R (t := t) (x := id)
              (iterate 2 (first | (refine TW.getf rfl rfl rfl (fun _ => ?_)) | (refine TW.pl rfl rfl ?_)))
              exact spot _ _ _ _ _ (by unfold sSpot; dsimp only; rw [if_neg (by decide), if_neg (by decide), if_pos rfl, hmv]) (by omega) (by omega) (hx1.step ht0 (by omega)) TFr.rf
          · cases hmv : mks (hd l.tail - 97).toNat with
            | none =>
              have e : sAdr (t, p, hh, ou, fi, mks, nid, rp) (39, hd l.tail - 97, noPat, mo, has) = .inl 3 := by
                unfold sAdr sSpot
                dsimp only
                rw [if_neg (by omega), if_neg (by omega), if_pos rfl, hmv]
              rw [e]
              (repeat (first | (refine TW.getf rfl rfl rfl (fun _ => ?_)) | (refine TW.pl rfl rfl ?_)))
              exact TW.iret rfl ⟨TFr.rf, rfl⟩
            | some id =>
              have := hmm.2 id hmv
              rw [hmm.1, hmv] at q4
              have q4 : id < 0 := q4
              omega
        · rw [if_neg hmk] at hsp
          cases hsp
    · rw [if_neg (by omega), if_neg (by omega), if_pos (Or.inr (by omega))] at hsp
      cases hsp
      (iterate 4 (first | (refine TW.getf rfl rfl rfl (fun _ => ?_)) | (refine TW.pl rfl rfl ?_)))
      rw [hAt.1]
      exact spot _ _ _ _ _ (by unfold sSpot; dsimp only; rw [if_neg (by omega), if_pos (by omega)]) (by omega) (by omega) hx1 TFr.rf
  · have hdg : isDig (hd l) = true := b2i_1 q1
    rw [if_pos hdg] at hsp
    cases hpn : pNum l with
    | inl f => rw [hpn] at hsp; cases hsp
    | inr w =>
    obtain ⟨l2, z⟩ := w
    rw [hpn] at hsp
    dsimp only at hsp
    cases hsp
    have hz := pNum_R9 hpn
    (repeat (first | (refine TW.getf rfl rfl rfl (fun _ => ?_)) | (refine TW.pl rfl rfl ?_)))
    refine TW.cv1 rfl rfl rfl (Nat.le_of_ble_eq_true rfl) (T_numberAt hs hx hpn) ?_; rintro _ _ ⟨rfl, rfl⟩
    (repeat (first | (refine TW.getf rfl rfl rfl (fun _ => ?_)) | (refine TW.pl rfl rfl ?_)))
    refine TW.cv1 rfl rfl rfl (Nat.le_of_ble_eq_true rfl) (T_behindNumber hs hx hpn) ?_
    rintro _ _ ⟨⟨y2, rfl, hy2⟩, rfl⟩
    (iterate 2 (first | (refine TW.getf rfl rfl rfl (fun _ => ?_)) | (refine TW.pl rfl rfl ?_)))
    exact spot _ _ _ _ _ (by unfold sSpot; dsimp only; rw [if_pos rfl]) (by omega) (by omega) hy2 TFr.rf
end TAdr
