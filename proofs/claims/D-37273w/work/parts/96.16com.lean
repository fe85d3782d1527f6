set_option maxRecDepth 100000
/-! the twin comes to an order with a work -/
/-- what is kept of an order: at its place in the text -/
def RunIs (σ : TS) (pos : Nat) (R : RG) : Prop := (σ.2 75 (pos)) = R.1 ∧ (σ.2 74 (pos)) = b2i R.2.2 ∧ (R.1 ≠ 0 → (σ.2 76 (pos)) = b2i R.2.1)
abbrev fK : List Nat := [23, 24, 25, 26, 27, 28, 29, 30, 33, 34, 35, 36, 37, 40, 41, 73]
abbrev aK : List Nat := [31, 32, 38, 39, 74, 75, 76]
/-- only the order at a place has changed -/
def RunFr (σ τ : TS) (pos : Nat) : Prop := ∀ k, k ≠ pos → τ.2 74 k = σ.2 74 k ∧ τ.2 75 k = σ.2 75 k ∧ τ.2 76 k = σ.2 76 k
theorem RunFr.rf {σ : TS} {pos : Nat} : RunFr σ σ pos := fun _ _ => ⟨rfl, rfl, rfl⟩
theorem RunFr.trans {σ τ υ : TS} {pos : Nat} (h : RunFr σ τ pos) (h2 : RunFr τ υ pos) : RunFr σ υ pos := fun k hk => ⟨(h2 k hk).1.trans (h k hk).1, (h2 k hk).2.1.trans (h k hk).2.1, (h2 k hk).2.2.trans (h k hk).2.2⟩
theorem RunFr.fr {σ τ : TS} {pos : Nat} {fs as : List Nat} (hf : TFr fs as σ τ) (h : ∀ k ∈ [74, 75, 76], k ∉ as) : RunFr σ τ pos := fun k _ => ⟨by rw [hf.2 74 (h 74 (by decide))], by rw [hf.2 75 (h 75 (by decide))], by rw [hf.2 76 (h 76 (by decide))]⟩
theorem RunIs.fr {σ τ : TS} {pos : Nat} {R : RG} {fs as : List Nat} (hR : RunIs σ pos R) (hf : TFr fs as σ τ) (h : ∀ k ∈ [74, 75, 76], k ∉ as) : RunIs τ pos R := by
  unfold RunIs at hR ⊢
  rw [hf.2 74 (h 74 (by decide)), hf.2 75 (h 75 (by decide)), hf.2 76 (h 76 (by decide))]
  exact hR
section TCom
variable {d : Nat} {σ τ : TS} {s l l1 l2 l' : List Int} {t pu re : List SLine} {du : List (List Int)} {x : SLine} {W : WG} {B : BG} {fs as : List Nat} {rs : List (List Int)} {xs : List Int} {h o : List (List Int)} {fi : Nat → List (List Int)} {m : Nat → Option Int} {n n0 : Int} {rp : Bool} {od : SOrd0} {a b : SAdr} {w : Bool × Option SAdr × Option SAdr}
theorem wK2 (h1 : w.1 = true → w.2.1 = none) (h2 : w.2.1 = none → w.2.2 = none) : (2 ≤ wKind w ↔ w.2.1 ≠ none) ∧ (wKind w = 3 ↔ w.2.2 ≠ none) := by
  obtain ⟨w1, w2, w3⟩ := w
  unfold wKind
  cases w1 with
  | true =>
    have := h1 rfl
    have h2' := h2 this
    subst this
    subst h2'
    simp
  | false =>
    cases w2 with
    | none => have := h2 rfl; subst this; simp
    | some a => cases w3 <;> simp
theorem T_isBarred (hs : SgnIs σ s) (hwk : WhK s l w l1 σ) (hl1 : l1 ≠ []) (ho : oAll od = w.1 ∧ oFst od = w.2.1 ∧ oSnd od = w.2.2 ∧ oAct od = hd l1) (hw2 : (w.2.1 = none → w.2.2 = none) ∧ (w.1 = true → w.2.1 = none)) : TM (d + 4) tk_isBarred [.inr 0] σ (HolQ σ (stBar od)) := by
  obtain ⟨hk, hact, hfst, hsnd⟩ := hwk
  obtain ⟨ho1, ho2, ho3, ho4⟩ := ho
  have ha := hs.at hact hl1
  obtain ⟨k2, k3⟩ := wK2 hw2.2 hw2.1
  have hkR : 0 ≤ wKind w ∧ wKind w ≤ 3 := by unfold wKind; split <;> (try split) <;> (try split) <;> omega
  refine TM.of rfl rfl ?_
  have yes : ∀ (τ : TS) (b2 : Int), TFr fH aH σ τ → stBar od = true → TW (d + 3) tc_isBarred 45 [some (.inr 0), some (.inl (hd l1)), some (.inl b2)] [] τ (HolQ σ (stBar od)) := by
    intro τ b2 hf hb
    rw [hb]
    (repeat (first | (refine TW.getf rfl rfl rfl (fun _ => ?_)) | (refine TW.pl rfl rfl ?_)))
    exact TW.zret rfl (Or.inr rfl) ⟨hf, rfl⟩
  have main : ∀ (b : Bool), b = decide (hd l1 = 108 ∨ hd l1 = 111 ∨ hd l1 = 79 ∨ hd l1 = 109 ∨ hd l1 = 116) → TW (d + 3) tc_isBarred 25 [some (.inr 0), some (.inl (hd l1)), some (.inl (b2i b))] [] σ (HolQ σ (stBar od)) := by
    intro b hb
    have hdef : stBar od = (b || stBarA w.2.1 || stBarA w.2.2) := by unfold stBar; rw [ho4, ho2, ho3, ← hb]
    have sec : ∀ (τ : TS), TFr fH aH σ τ → b = false → stBarA w.2.1 = false → TW (d + 3) tc_isBarred 36 [some (.inr 0), some (.inl (hd l1)), some (.inl (b2i b))] [] τ (HolQ σ (stBar od)) := by
      intro τ hf hb0 hfb
      have hk' : τ.1 27 = wKind w := (hf.1 27 (by decide)).trans hk
      rw [hb0, hfb, Bool.false_or, Bool.false_or] at hdef
      (repeat (first | (refine TW.getf rfl rfl rfl (fun _ => ?_)) | (refine TW.pl rfl rfl ?_)))
      refine TW.br rfl rfl (by first | omega | exact b2i_R _ | exact ⟨b2i_R _, by omega⟩) (fun q1 => ?_) (fun q1 => ?_)
      · have h2n : w.2.2 = none := Classical.byContradiction (fun z => q1 (by rw [hk', k3.mpr z]))
        rw [h2n] at hdef
        rw [show stBar od = false from hdef]
        (repeat (first | (refine TW.getf rfl rfl rfl (fun _ => ?_)) | (refine TW.pl rfl rfl ?_)))
        exact TW.zret rfl (Or.inl rfl) ⟨hf, rfl⟩
      · have h2n : w.2.2 ≠ none := k3.mp (by rw [← hk', q1])
        obtain ⟨b', h2s⟩ := Option.ne_none_iff_exists'.mp h2n
        obtain ⟨lb, l'', hxb, hpb⟩ := hsnd b' h2s
        have hxb1 : Sfx s lb (τ.1 29) := by rw [hf.1 29 (by decide)]; exact hxb
        (repeat (first | (refine TW.getf rfl rfl rfl (fun _ => ?_)) | (refine TW.pl rfl rfl ?_)))
        refine TW.cv1 rfl rfl rfl (Nat.le_of_ble_eq_true rfl) (T_isBarredAddress (hs.fr hf (by decide) (by decide)) hxb1 hpb) ?_
        rintro _ τ1 ⟨hf1, rfl⟩
        rw [← h2s, ← hdef]
        refine TW.br rfl rfl (by first | omega | exact b2i_R _ | exact ⟨b2i_R _, by omega⟩) (fun q2 => ?_) (fun q2 => ?_)
        · rw [b2i_0 q2]
          (repeat (first | (refine TW.getf rfl rfl rfl (fun _ => ?_)) | (refine TW.pl rfl rfl ?_)))
          exact TW.zret rfl (Or.inl rfl) ⟨hf.trans hf1, rfl⟩
        · rw [b2i_1 q2]
          (repeat (first | (refine TW.getf rfl rfl rfl (fun _ => ?_)) | (refine TW.pl rfl rfl ?_)))
          exact TW.zret rfl (Or.inr rfl) ⟨hf.trans hf1, rfl⟩
    (repeat (first | (refine TW.getf rfl rfl rfl (fun _ => ?_)) | (refine TW.pl rfl rfl ?_)))
    refine TW.br rfl rfl (by first | omega | exact b2i_R _ | exact ⟨b2i_R _, by omega⟩) (fun q1 => ?_) (fun q1 => ?_)
    · exact yes σ _ TFr.rf (by rw [hdef, b2i_1 q1]; rfl)
    have hb0 := b2i_0 q1
    (repeat (first | (refine TW.getf rfl rfl rfl (fun _ => ?_)) | (refine TW.pl rfl rfl ?_)))
    refine TW.br rfl rfl (by first | omega | exact b2i_R _ | exact ⟨b2i_R _, by omega⟩) (fun q2 => ?_) (fun q2 => ?_)
    · have h1n : w.2.1 = none := Classical.byContradiction (fun z => by have := k2.mpr z; omega)
      exact sec σ TFr.rf hb0 (by rw [h1n]; rfl)
    · have h1n : w.2.1 ≠ none := k2.mp (by omega)
      obtain ⟨a', h1s⟩ := Option.ne_none_iff_exists'.mp h1n
      obtain ⟨hxa, l'', hpa⟩ := hfst a' h1s
      (repeat (first | (refine TW.getf rfl rfl rfl (fun _ => ?_)) | (refine TW.pl rfl rfl ?_)))
      refine TW.cv1 rfl rfl rfl (Nat.le_of_ble_eq_true rfl) (T_isBarredAddress hs hxa hpa) ?_
      rintro _ τ1 ⟨hf1, rfl⟩
      refine TW.br rfl rfl (by first | omega | exact b2i_R _ | exact ⟨b2i_R _, by omega⟩) (fun q3 => ?_) (fun q3 => ?_)
      · exact yes τ1 _ hf1 (by rw [hdef, hb0, h1s, b2i_1 q3]; rfl)
      · exact sec τ1 hf1 hb0 (by rw [h1s]; exact b2i_0 q3)
  (repeat (first | (refine TW.getf rfl rfl rfl (fun _ => ?_)) | (refine TW.pl rfl rfl ?_)))
  refine TW.iald (n := 60) rfl rfl rfl (by omega) (fun _ => ?_)
  rw [ha.1]
  (repeat (first | (refine TW.getf rfl rfl rfl (fun _ => ?_)) | (refine TW.pl rfl rfl ?_)))
  refine TW.br rfl rfl (by first | omega | exact b2i_R _ | exact ⟨b2i_R _, by omega⟩) (fun q1 => ?_) (fun q1 => ?_)
  · (iterate 3 (first | (refine TW.getf rfl rfl rfl (fun _ => ?_)) | (refine TW.pl rfl rfl ?_)))
    exact main true (by rw [q1]; rfl)
  (repeat (first | (refine TW.getf rfl rfl rfl (fun _ => ?_)) | (refine TW.pl rfl rfl ?_)))
  refine TW.br rfl rfl (by first | omega | exact b2i_R _ | exact ⟨b2i_R _, by omega⟩) (fun q2 => ?_) (fun q2 => ?_)
  · (iterate 3 (first | (refine TW.getf rfl rfl rfl (fun _ => ?_)) | (refine TW.pl rfl rfl ?_)))
    exact main true (by rw [q2]; rfl)
  (repeat (first | (refine TW.getf rfl rfl rfl (fun _ => ?_)) | (refine TW.pl rfl rfl ?_)))
  refine TW.br rfl rfl (by first | omega | exact b2i_R _ | exact ⟨b2i_R _, by omega⟩) (fun q3 => ?_) (fun q3 => ?_)
  · (iterate 3 (first | (refine TW.getf rfl rfl rfl (fun _ => ?_)) | (refine TW.pl rfl rfl ?_)))
    exact main true (by rw [q3]; rfl)
  (repeat (first | (refine TW.getf rfl rfl rfl (fun _ => ?_)) | (refine TW.pl rfl rfl ?_)))
  refine TW.br rfl rfl (by first | omega | exact b2i_R _ | exact ⟨b2i_R _, by omega⟩) (fun q4 => ?_) (fun q4 => ?_)
  · (iterate 3 (first | (refine TW.getf rfl rfl rfl (fun _ => ?_)) | (refine TW.pl rfl rfl ?_)))
    exact main true (by rw [q4]; rfl)
  (repeat (first | (refine TW.getf rfl rfl rfl (fun _ => ?_)) | (refine TW.pl rfl rfl ?_)))
  refine TW.br rfl rfl (by first | omega | exact b2i_R _ | exact ⟨b2i_R _, by omega⟩) (fun q5 => ?_) (fun q5 => ?_)
  · (iterate 2 (first | (refine TW.getf rfl rfl rfl (fun _ => ?_)) | (refine TW.pl rfl rfl ?_)))
    exact main false (decide_eq_false (by
      rintro (z | z | z | z | z)
      · exact q1 z
      · exact q2 z
      · exact q3 z
      · exact q4 z
      · exact q5 z)).symm
  · (iterate 3 (first | (refine TW.getf rfl rfl rfl (fun _ => ?_)) | (refine TW.pl rfl rfl ?_)))
    exact main true (by rw [q5]; rfl)
/-- an order is come to: its where was read -/
def ComQ (σ : TS) (s l : List Int) (w : Bool × Option SAdr × Option SAdr) (l1 : List Int) (c : Nat) (bar : Bool) (r : Option Int) (τ : TS) : Prop := (TFr [23, 24, 25, 26, 27, 28, 29, 30, 33, 34, 35, 36, 37, 40, 41, 73] aH σ τ ∧ SgnIs τ s ∧ GS τ) ∧ if c = 400 then r = some 7 else (τ.1 73) = ((c + 1 : Nat) : Int) ∧ (WhK s l w l1 τ ∧ r = some (if bar = true then 8 else 0))
theorem T_comesTo {x0 : Int} {c : Nat} (hs : SgnIs σ s) (hg : GS σ) (hx : Sfx s l x0) (hwh : pWhere l = .inr (l1, w)) (hl1 : l1 ≠ []) (ho : oAll od = w.1 ∧ oFst od = w.2.1 ∧ oSnd od = w.2.2 ∧ oAct od = hd l1) (hc : (σ.1 73) = c) (hcR : c ≤ 400) : TM (d + 12) tk_comesTo [.inr 0, .inl x0] σ (ComQ σ s l w l1 c (stBar od)) := by
  have hw2 := pWhere_ok hwh
  refine TM.of rfl rfl ?_
  (repeat (first | (refine TW.getf rfl rfl rfl (fun _ => ?_)) | (refine TW.pl rfl rfl ?_)))
  refine TW.br rfl rfl (by first | omega | exact b2i_R _ | exact ⟨b2i_R _, by omega⟩) (fun q1 => ?_) (fun q1 => ?_)
  · (repeat (first | (refine TW.getf rfl rfl rfl (fun _ => ?_)) | (refine TW.pl rfl rfl ?_)))
    refine TW.putf rfl rfl (by omega) ?_
    have f0 : TFr [73] [] σ (ts1 σ 73 (σ.1 73 + 1)) := TFr.rf.ts1 (by decide)
    have hc1 : (ts1 σ 73 (σ.1 73 + 1)).1 73 = ((c + 1 : Nat) : Int) := by rw [ts1_eq]; omega
    have hs0 := hs.fr f0 (by decide) (by decide)
    have hg0 : GS (ts1 σ 73 (σ.1 73 + 1)) := hg.fr f0 (by decide) (by decide)
    generalize ts1 σ 73 (σ.1 73 + 1) = σ0 at f0 hc1 hs0 hg0 ⊢
    (repeat (first | (refine TW.getf rfl rfl rfl (fun _ => ?_)) | (refine TW.pl rfl rfl ?_)))
    refine TW.cv1 rfl rfl rfl (Nat.le_of_ble_eq_true rfl) (T_readWhere hs0 hg0 hx hwh) ?_
    rintro _ τ1 ⟨rfl, hr1, hwk⟩
    (repeat (first | (refine TW.getf rfl rfl rfl (fun _ => ?_)) | (refine TW.pl rfl rfl ?_)))
    refine TW.cv0 rfl rfl rfl (Nat.le_of_ble_eq_true rfl) (T_isBarred hr1.2.1 hwk hl1 ho hw2) ?_
    rintro _ τ2 ⟨hf2, rfl⟩
    have hfr : TFr [23, 24, 25, 26, 27, 28, 29, 30, 33, 34, 35, 36, 37, 40, 41, 73] aH σ τ2 := (f0.mono (by decide) (by decide)).trans ((hr1.1.mono (by decide) (by decide)).trans (hf2.mono (by decide) (by decide)))
    have hs2 := hr1.2.1.fr hf2 (by decide) (by decide)
    have hg2 : GS τ2 := hr1.2.2.fr hf2 (by decide) (by decide)
    have hc2 : τ2.1 73 = ((c + 1 : Nat) : Int) := by rw [hf2.1 73 (by decide), hr1.1.1 73 (by decide)]; exact hc1
    have hwk2 : WhK s l w l1 τ2 := by
      obtain ⟨e1, e2, e3, e4⟩ := hwk
      exact ⟨(hf2.1 27 (by decide)).trans e1, by rw [hf2.1 30 (by decide)]; exact e2, fun a' ha' => by rw [hf2.1 28 (by decide)]; exact e3 a' ha', fun b' hb' => by rw [hf2.1 29 (by decide)]; exact e4 b' hb'⟩
    refine TW.br rfl rfl (by first | omega | exact b2i_R _ | exact ⟨b2i_R _, by omega⟩) (fun q2 => ?_) (fun q2 => ?_)
    · have hb := b2i_0 q2
      (repeat (first | (refine TW.getf rfl rfl rfl (fun _ => ?_)) | (refine TW.pl rfl rfl ?_)))
      refine TW.iret rfl ⟨⟨hfr, hs2, hg2⟩, ?_⟩
      rw [if_neg (by omega), hb, if_neg (by decide)]
      exact ⟨hc2, hwk2, rfl⟩
    · have hb := b2i_1 q2
      (repeat (first | (refine TW.getf rfl rfl rfl (fun _ => ?_)) | (refine TW.pl rfl rfl ?_)))
      refine TW.iret rfl ⟨⟨hfr, hs2, hg2⟩, ?_⟩
      rw [if_neg (by omega), hb, if_pos rfl]
      exact ⟨hc2, hwk2, rfl⟩
  · (repeat (first | (refine TW.getf rfl rfl rfl (fun _ => ?_)) | (refine TW.pl rfl rfl ?_)))
    refine TW.iret rfl ⟨⟨TFr.rf, hs, hg⟩, ?_⟩
    rw [if_pos (by omega)]
theorem TWB.hol (hB : TWB σ t W B) (hf : TFr fH aH σ τ) : TWB τ t W B := hB.fr hf (by decide) (by decide)
theorem T_runHolds {pos : Nat} {ps : Int} {R : RG} (hs : SgnIs σ s) (hB : TWB σ t (x, false, du, pu, re) (h, o, fi, m, n, rp)) (hw : WS n0 (x, false, du, pu, re) (h, o, fi, m, n, rp)) (hxa : Sfx s l (σ.1 28)) (hpa : pAdr l = .inr (l', a)) (hxb : Sfx s l2 (σ.1 29)) (hpb : pAdr l2 = .inr (l1, b)) (hn0 : n0 < 890000) (hps : ps = pos) (hpos : pos < 60) (hR : (σ.2 74 (pos)) = b2i R.2.2) : TM (d + 7) tk_runHolds [.inr 0, .inl ps] σ (fun r τ => r = some (b2i (stRun t.length (x, false, du, pu, re) (h, o, fi, m, n, rp) a b R.2.2).1) ∧ TFr fH [31, 32, 38, 39, 74] σ τ ∧ (τ.2 74 (pos)) = b2i (stRun t.length (x, false, du, pu, re) (h, o, fi, m, n, rp) a b R.2.2).2 ∧ ∀ k, k ≠ pos → τ.2 74 k = σ.2 74 k) := by
  have hlb0 : l2 ≠ [] := by obtain ⟨_, h1, _⟩ := pAdr_out hpb; exact (pSpot_out h1).1
  have hab := hs.at hxb hlb0
  have hnum := numr_hd hpb
  have h40 : t.length ≤ 40 := hB.1.1.2.1
  have hL : σ.1 65 = t.length := hB.1.2.1
  have hwnr : σ.1 68 = ((t.length - re.length : Nat) : Int) := (hB.2.2.2.1.2 rfl).2.2
  have hpn : ps.toNat = pos := by omega
  have hvR : stNumr b = true → -10000 ≤ stVal t.length b ∧ stVal t.length b ≤ 10000 := by
    intro hnt
    have hnt2 : b.1 = 48 ∨ b.1 = 36 := of_decide_eq_true hnt
    obtain ⟨la, h1, h2⟩ := pAdr_out hpb
    have h5 := pMore_R _ _ _ _ _ _ _ h2
    have hll : la.length ≤ 60 := by
      have h6 := pSpot_shr _ _ h1
      have := hxb.len
      have := hs.2.1
      omega
    obtain ⟨-, h3⟩ := pSpot_out h1
    unfold stVal
    split
    · omega
    · rename_i hn36
      rcases h3 with ⟨e1, e2, e3⟩ | ⟨e1, e2, _⟩
      · have := pNum_R9 e3; omega
      · exfalso
        rcases hnt2 with z | z
        · rw [e2] at z; rw [z] at e1; revert e1; decide
        · exact hn36 z
  obtain ⟨nr, hnr⟩ : ∃ nr, nr = t.length - re.length := ⟨_, rfl⟩
  rw [← hnr] at hwnr
  have hRun : stRun t.length (x, false, du, pu, re) (h, o, fi, m, n, rp) a b R.2.2 = if R.2.2 = true ∧ ¬ (stNumr b = true ∧ stVal t.length b < (nr : Int)) then (true, if stNumr b = true then decide ((nr : Int) < stVal t.length b) else !stAt t.length (x, false, du, pu, re) (h, o, fi, m, n, rp) b) else (stAt t.length (x, false, du, pu, re) (h, o, fi, m, n, rp) a, stAt t.length (x, false, du, pu, re) (h, o, fi, m, n, rp) a && (!stNumr b || decide ((nr : Int) < stVal t.length b))) := by
    rw [hnr]; rfl
  rw [hRun]
  have hnrR : (nr : Int) ≤ 40 := by omega
  refine TM.of rfl rfl ?_
  generalize hV : stVal t.length b = V at hvR ⊢
  generalize hnb : stNumr b = nb at hvR ⊢
  have p32 : ∀ (v : Int) (τ : TS) (run : Bool), (nb = true → v = V) → (-10000 ≤ v ∧ v ≤ 10000) → (τ.2 74 (pos)) = b2i run → (run = true ↔ (R.2.2 = true ∧ ¬ (nb = true ∧ V < (nr : Int)))) → TFr [] [74] σ τ → (∀ k, k ≠ pos → τ.2 74 k = σ.2 74 k) → TW (d + 6) tc_runHolds 32 [some (.inr 0), some (.inl ps), some (.inl (b2i nb)), some (.inl v), none] [] τ (fun r τ => r = some (b2i (if R.2.2 = true ∧ ¬ (nb = true ∧ V < (nr : Int)) then (true, if nb = true then decide ((nr : Int) < V) else !stAt t.length (x, false, du, pu, re) (h, o, fi, m, n, rp) b) else (stAt t.length (x, false, du, pu, re) (h, o, fi, m, n, rp) a, stAt t.length (x, false, du, pu, re) (h, o, fi, m, n, rp) a && (!nb || decide ((nr : Int) < V)))).1) ∧ TFr fH [31, 32, 38, 39, 74] σ τ ∧ (τ.2 74 (pos)) = b2i (if R.2.2 = true ∧ ¬ (nb = true ∧ V < (nr : Int)) then (true, if nb = true then decide ((nr : Int) < V) else !stAt t.length (x, false, du, pu, re) (h, o, fi, m, n, rp) b) else (stAt t.length (x, false, du, pu, re) (h, o, fi, m, n, rp) a, stAt t.length (x, false, du, pu, re) (h, o, fi, m, n, rp) a && (!nb || decide ((nr : Int) < V)))).2 ∧ ∀ k, k ≠ pos → τ.2 74 k = σ.2 74 k) := by
    intro v τ run hv hvR' hr hrun hf ho
    have hsτ := hs.fr hf (by decide) (by decide)
    have hBτ : TWB τ t (x, false, du, pu, re) (h, o, fi, m, n, rp) := hB.fr hf (by decide) (by decide)
    have h68 : τ.1 68 = nr := (hf.1 68 (by decide)).trans hwnr
    have h28 : τ.1 28 = σ.1 28 := hf.1 28 (by decide)
    have h29 : τ.1 29 = σ.1 29 := hf.1 29 (by decide)
    (repeat (first | (refine TW.getf rfl rfl rfl (fun _ => ?_)) | (refine TW.pl rfl rfl ?_)))
    refine TW.bald (n := 60) rfl rfl rfl (by omega) (fun _ => ?_)
    rw [hpn, hr]
    refine TW.br rfl rfl (by first | omega | exact b2i_R _ | exact ⟨b2i_R _, by omega⟩) (fun q1 => ?_) (fun q1 => ?_)
    · have hrf : ¬ (R.2.2 = true ∧ ¬ (nb = true ∧ V < (nr : Int))) := fun z => by rw [hrun.mpr z] at q1; exact absurd q1 (by decide)
      rw [if_neg hrf]
      (repeat (first | (refine TW.getf rfl rfl rfl (fun _ => ?_)) | (refine TW.pl rfl rfl ?_)))
      refine TW.cv1 rfl rfl rfl (Nat.le_of_ble_eq_true rfl) (T_holds hsτ hBτ hw (by rw [h28]; exact hxa) hpa hn0) ?_
      rintro _ τ1 ⟨hf1, rfl⟩
      have h681 : τ1.1 68 = nr := (hf1.1 68 (by decide)).trans h68
      generalize stAt t.length (x, false, du, pu, re) (h, o, fi, m, n, rp) a = A1
      have fin : ∀ c : Bool, c = (A1 && (!nb || decide ((nr : Int) < V))) → TW (d + 6) tc_runHolds 80 [some (.inr 0), some (.inl ps), some (.inl (b2i nb)), some (.inl v), some (.inl (b2i A1))] [.inl (b2i c), .inl ps, .inr 75] τ1 (fun r τ => r = some (b2i (A1, A1 && (!nb || decide ((nr : Int) < V))).1) ∧ TFr fH [31, 32, 38, 39, 74] σ τ ∧ (τ.2 74 (pos)) = b2i (A1, A1 && (!nb || decide ((nr : Int) < V))).2 ∧ ∀ k, k ≠ pos → τ.2 74 k = σ.2 74 k) := by
        intro c hc
        refine TW.bast (n := 60) rfl rfl rfl (by omega) (b2i_zo c) ?_
        (repeat (first | (refine TW.getf rfl rfl rfl (fun _ => ?_)) | (refine TW.pl rfl rfl ?_)))
        refine TW.zret rfl (b2i_zo A1) ⟨rfl, ((hf.mono (by decide) (by decide)).trans (hf1.mono (by decide) (by decide))).ts2 (by decide), ?_, fun k hk => ?_⟩
        · rw [hpn, ts2_at, if_pos rfl, ← hc]
        · rw [hpn, ts2_at, if_neg hk, hf1.2 74 (by decide)]; exact ho k hk
      (repeat (first | (refine TW.getf rfl rfl rfl (fun _ => ?_)) | (refine TW.pl rfl rfl ?_)))
      refine TW.br rfl rfl (by first | omega | exact b2i_R _ | exact ⟨b2i_R _, by omega⟩) (fun q2 => ?_) (fun q2 => ?_)
      · have hA0 := b2i_0 q2
        subst hA0
        (iterate 1 (first | (refine TW.getf rfl rfl rfl (fun _ => ?_)) | (refine TW.pl rfl rfl ?_)))
        exact fin false rfl
      · have hA1 := b2i_1 q2
        subst hA1
        (repeat (first | (refine TW.getf rfl rfl rfl (fun _ => ?_)) | (refine TW.pl rfl rfl ?_)))
        refine TW.br rfl rfl (by first | omega | exact b2i_R _ | exact ⟨b2i_R _, by omega⟩) (fun q3 => ?_) (fun q3 => ?_)
        · have hn0 := b2i_0 q3
          subst hn0
          (iterate 2 (first | (refine TW.getf rfl rfl rfl (fun _ => ?_)) | (refine TW.pl rfl rfl ?_)))
          exact fin true rfl
        · have hn1 := b2i_1 q3
          subst hn1
          have := hv rfl
          subst this
          (repeat (first | (refine TW.getf rfl rfl rfl (fun _ => ?_)) | (refine TW.pl rfl rfl ?_)))
          rw [h681]
          refine TW.br rfl rfl (by first | omega | exact b2i_R _ | exact ⟨b2i_R _, by omega⟩) (fun q4 => ?_) (fun q4 => ?_)
          · (iterate 1 (first | (refine TW.getf rfl rfl rfl (fun _ => ?_)) | (refine TW.pl rfl rfl ?_)))
            exact fin false (by rw [decide_eq_false (by omega)]; rfl)
          · (iterate 2 (first | (refine TW.getf rfl rfl rfl (fun _ => ?_)) | (refine TW.pl rfl rfl ?_)))
            exact fin true (by rw [decide_eq_true (by omega)]; rfl)
    · have hrt : R.2.2 = true ∧ ¬ (nb = true ∧ V < (nr : Int)) := hrun.mp (b2i_1 q1)
      rw [if_pos hrt]
      have fin : ∀ (c : Bool) (τ1 : TS), TFr fH aH τ τ1 → c = (if nb = true then decide ((nr : Int) < V) else !stAt t.length (x, false, du, pu, re) (h, o, fi, m, n, rp) b) → TW (d + 6) tc_runHolds 58 [some (.inr 0), some (.inl ps), some (.inl (b2i nb)), some (.inl v), none] [.inl (b2i c), .inl ps, .inr 75] τ1 (fun r τ => r = some (b2i (true, if nb = true then decide ((nr : Int) < V) else !stAt t.length (x, false, du, pu, re) (h, o, fi, m, n, rp) b).1) ∧ TFr fH [31, 32, 38, 39, 74] σ τ ∧ (τ.2 74 (pos)) = b2i (true, if nb = true then decide ((nr : Int) < V) else !stAt t.length (x, false, du, pu, re) (h, o, fi, m, n, rp) b).2 ∧ ∀ k, k ≠ pos → τ.2 74 k = σ.2 74 k) := by
        intro c τ1 hf1 hc
        refine TW.bast (n := 60) rfl rfl rfl (by omega) (b2i_zo c) ?_
        (repeat (first | (refine TW.getf rfl rfl rfl (fun _ => ?_)) | (refine TW.pl rfl rfl ?_)))
        refine TW.zret rfl (Or.inr rfl) ⟨rfl, ((hf.mono (by decide) (by decide)).trans (hf1.mono (by decide) (by decide))).ts2 (by decide), ?_, fun k hk => ?_⟩
        · rw [hpn, ts2_at, if_pos rfl, ← hc]
        · rw [hpn, ts2_at, if_neg hk, hf1.2 74 (by decide)]; exact ho k hk
      (repeat (first | (refine TW.getf rfl rfl rfl (fun _ => ?_)) | (refine TW.pl rfl rfl ?_)))
      refine TW.br rfl rfl (by first | omega | exact b2i_R _ | exact ⟨b2i_R _, by omega⟩) (fun q2 => ?_) (fun q2 => ?_)
      · have hn0 := b2i_0 q2
        subst hn0
        (repeat (first | (refine TW.getf rfl rfl rfl (fun _ => ?_)) | (refine TW.pl rfl rfl ?_)))
        refine TW.cv1 rfl rfl rfl (Nat.le_of_ble_eq_true rfl) (T_holds hsτ hBτ hw (by rw [h29]; exact hxb) hpb hn0) ?_
        rintro _ τ1 ⟨hf1, rfl⟩
        rw [if_neg (by decide)] at fin
        generalize stAt t.length (x, false, du, pu, re) (h, o, fi, m, n, rp) b = B1 at fin ⊢
        refine TW.br rfl rfl (by first | omega | exact b2i_R _ | exact ⟨b2i_R _, by omega⟩) (fun q3 => ?_) (fun q3 => ?_)
        · rw [b2i_1 q3] at fin ⊢
          (iterate 1 (first | (refine TW.getf rfl rfl rfl (fun _ => ?_)) | (refine TW.pl rfl rfl ?_)))
          exact fin false τ1 hf1 rfl
        · rw [b2i_0 q3] at fin ⊢
          (iterate 2 (first | (refine TW.getf rfl rfl rfl (fun _ => ?_)) | (refine TW.pl rfl rfl ?_)))
          exact fin true τ1 hf1 rfl
      · have hn1 := b2i_1 q2
        subst hn1
        have := hv rfl
        subst this
        (repeat (first | (refine TW.getf rfl rfl rfl (fun _ => ?_)) | (refine TW.pl rfl rfl ?_)))
        rw [h68]
        refine TW.br rfl rfl (by first | omega | exact b2i_R _ | exact ⟨b2i_R _, by omega⟩) (fun q3 => ?_) (fun q3 => ?_)
        · (iterate 2 (first | (refine TW.getf rfl rfl rfl (fun _ => ?_)) | (refine TW.pl rfl rfl ?_)))
          exact fin false τ TFr.rf (by rw [if_pos rfl, decide_eq_false (by omega)])
        · (iterate 2 (first | (refine TW.getf rfl rfl rfl (fun _ => ?_)) | (refine TW.pl rfl rfl ?_)))
          exact fin true τ TFr.rf (by rw [if_pos rfl, decide_eq_true (by omega)])
  have p16 : ∀ v : Int, (nb = true → v = V) → (-10000 ≤ v ∧ v ≤ 10000) → TW (d + 6) tc_runHolds 16 [some (.inr 0), some (.inl ps), some (.inl (b2i nb)), some (.inl v), none] [] σ _ := fun v hv hvR' => by
    have keep : ∀ (run : Bool), run = R.2.2 → (run = true ↔ (R.2.2 = true ∧ ¬ (nb = true ∧ V < (nr : Int)))) → _ := fun run hr hh => p32 v σ run hv hvR' (by rw [hr]; exact hR) hh TFr.rf (fun _ _ => rfl)
    (repeat (first | (refine TW.getf rfl rfl rfl (fun _ => ?_)) | (refine TW.pl rfl rfl ?_)))
    refine TW.bald (n := 60) rfl rfl rfl (by omega) (fun _ => ?_)
    rw [hpn, hR]
    refine TW.br rfl rfl (by first | omega | exact b2i_R _ | exact ⟨b2i_R _, by omega⟩) (fun q1 => ?_) (fun q1 => ?_)
    · exact keep R.2.2 rfl ⟨fun z => (by rw [z] at q1; exact absurd q1 (by decide)), fun z => z.1⟩
    have hRt := b2i_1 q1
    (repeat (first | (refine TW.getf rfl rfl rfl (fun _ => ?_)) | (refine TW.pl rfl rfl ?_)))
    refine TW.br rfl rfl (by first | omega | exact b2i_R _ | exact ⟨b2i_R _, by omega⟩) (fun q2 => ?_) (fun q2 => ?_)
    · have hn0 := b2i_0 q2
      exact keep R.2.2 rfl ⟨fun z => ⟨z, fun y => by rw [hn0] at y; cases y.1⟩, fun z => z.1⟩
    have hn1 := b2i_1 q2
    have hvV := hv hn1
    (repeat (first | (refine TW.getf rfl rfl rfl (fun _ => ?_)) | (refine TW.pl rfl rfl ?_)))
    rw [hwnr]
    refine TW.br rfl rfl (by first | omega | exact b2i_R _ | exact ⟨b2i_R _, by omega⟩) (fun q3 => ?_) (fun q3 => ?_)
    · exact keep R.2.2 rfl ⟨fun z => ⟨z, fun y => by omega⟩, fun z => z.1⟩
    · (repeat (first | (refine TW.getf rfl rfl rfl (fun _ => ?_)) | (refine TW.pl rfl rfl ?_)))
      refine TW.bast (n := 60) rfl rfl rfl (by omega) (Or.inl rfl) ?_
      rw [hpn]
      exact p32 v _ false hv hvR' (by rw [ts2_at, if_pos rfl]; rfl) ⟨fun z => (by cases z), fun z => absurd ⟨hn1, by omega⟩ z.2⟩ (TFr.rf.ts2 (by decide)) (fun k hk => by rw [ts2_at, if_neg hk])
  (repeat (first | (refine TW.getf rfl rfl rfl (fun _ => ?_)) | (refine TW.pl rfl rfl ?_)))
  refine TW.iald (n := 60) rfl rfl rfl (by omega) (fun _ => ?_)
  rw [hab.1]
  refine TW.cs1 rfl rfl rfl (Nat.le_of_ble_eq_true rfl) (T_isNumeric (by omega)) ?_; rintro _ _ ⟨rfl, rfl⟩
  rw [hnum, hnb]
  (repeat (first | (refine TW.getf rfl rfl rfl (fun _ => ?_)) | (refine TW.pl rfl rfl ?_)))
  refine TW.br rfl rfl (by first | omega | exact b2i_R _ | exact ⟨b2i_R _, by omega⟩) (fun q0 => ?_) (fun q0 => ?_)
  · have hn0 := b2i_0 q0
    (iterate 2 (first | (refine TW.getf rfl rfl rfl (fun _ => ?_)) | (refine TW.pl rfl rfl ?_)))
    exact p16 0 (fun z => by rw [hn0] at z; cases z) (by decide)
  · have hn1 := b2i_1 q0
    (repeat (first | (refine TW.getf rfl rfl rfl (fun _ => ?_)) | (refine TW.pl rfl rfl ?_)))
    refine TW.cv1 rfl rfl rfl (Nat.le_of_ble_eq_true rfl) (T_numericAt hs hxb hpb (hnb.trans hn1) hL h40) ?_; rintro _ _ ⟨rfl, rfl⟩
    rw [hV]
    (iterate 2 (first | (refine TW.getf rfl rfl rfl (fun _ => ?_)) | (refine TW.pl rfl rfl ?_)))
    exact p16 V (fun _ => rfl) (hvR hn1)
theorem T_whereHolds {pos tu : Nat} {ps : Int} {R : RG} (hs : SgnIs σ s) (hB : TWB σ t (x, false, du, pu, re) (h, o, fi, m, n, rp)) (hw : WS n0 (x, false, du, pu, re) (h, o, fi, m, n, rp)) (hwk : WhK s l w l1 σ) (ho : oFst od = w.2.1 ∧ oSnd od = w.2.2) (hw2 : (w.2.1 = none → w.2.2 = none) ∧ (w.1 = true → w.2.1 = none)) (hn0 : n0 < 890000) (hps : ps = pos) (hpos : pos < 60) (hR : RunIs σ pos R) (htu : (σ.1 69) = tu) (htu0 : 0 < tu) (hRt : (R.1 : Int) < 1000000) (htu1 : tu < 1000000) : TM (d + 8) tk_whereHolds [.inr 0, .inl ps] σ (fun r τ => r = some (b2i (stHold t.length (x, false, du, pu, re) (h, o, fi, m, n, rp) tu od R).1) ∧ TFr fH aK σ τ ∧ RunIs τ pos (stHold t.length (x, false, du, pu, re) (h, o, fi, m, n, rp) tu od R).2 ∧ RunFr σ τ pos) := by
  obtain ⟨hk, hact, hfst, hsnd⟩ := hwk
  obtain ⟨k2, k3⟩ := wK2 hw2.2 hw2.1
  have hkR : 0 ≤ wKind w ∧ wKind w ≤ 3 := by unfold wKind; split <;> (try split) <;> (try split) <;> omega
  have hpn : ps.toNat = pos := by omega
  unfold stHold
  rw [ho.1, ho.2]
  refine TM.of rfl rfl ?_
  (repeat (first | (refine TW.getf rfl rfl rfl (fun _ => ?_)) | (refine TW.pl rfl rfl ?_)))
  refine TW.br rfl rfl (by first | omega | exact b2i_R _ | exact ⟨b2i_R _, by omega⟩) (fun q1 => ?_) (fun q1 => ?_)
  · have h1n : w.2.1 ≠ none := k2.mp (by omega)
    obtain ⟨a', h1s⟩ := Option.ne_none_iff_exists'.mp h1n
    obtain ⟨hxa, l'', hpa⟩ := hfst a' h1s
    rw [h1s]
    (repeat (first | (refine TW.getf rfl rfl rfl (fun _ => ?_)) | (refine TW.pl rfl rfl ?_)))
    refine TW.br rfl rfl (by first | omega | exact b2i_R _ | exact ⟨b2i_R _, by omega⟩) (fun q2 => ?_) (fun q2 => ?_)
    · have h2n : w.2.2 ≠ none := k3.mp (by omega)
      obtain ⟨b', h2s⟩ := Option.ne_none_iff_exists'.mp h2n
      obtain ⟨lb, l3, hxb, hpb⟩ := hsnd b' h2s
      rw [h2s]
      dsimp only
      obtain ⟨R1, R2, R3⟩ := hR
      (repeat (first | (refine TW.getf rfl rfl rfl (fun _ => ?_)) | (refine TW.pl rfl rfl ?_)))
      refine TW.iald (n := 60) rfl rfl rfl (by omega) (fun _ => ?_)
      rw [hpn, R1]
      (repeat (first | (refine TW.getf rfl rfl rfl (fun _ => ?_)) | (refine TW.pl rfl rfl ?_)))
      rw [htu]
      refine TW.br rfl rfl (by first | omega | exact b2i_R _ | exact ⟨b2i_R _, by omega⟩) (fun q3 => ?_) (fun q3 => ?_)
      · rw [if_pos (by omega)]
        (repeat (first | (refine TW.getf rfl rfl rfl (fun _ => ?_)) | (refine TW.pl rfl rfl ?_)))
        refine TW.bald (n := 60) rfl rfl rfl (by omega) (fun _ => ?_)
        rw [hpn, R3 (by omega)]
        exact TW.zret rfl (b2i_zo _) ⟨rfl, TFr.rf, ⟨R1, R2, R3⟩, RunFr.rf⟩
      · rw [if_neg (by omega)]
        (repeat (first | (refine TW.getf rfl rfl rfl (fun _ => ?_)) | (refine TW.pl rfl rfl ?_)))
        rw [htu]
        refine TW.iast (n := 60) rfl rfl rfl (by omega) (by omega) ?_
        rw [hpn]
        have f1 : TFr [] [75] σ (ts2 σ 75 pos tu) := TFr.rf.ts2 (by decide)
        have hs1 := hs.fr f1 (by decide) (by decide)
        have hB1 : TWB (ts2 σ 75 pos tu) t (x, false, du, pu, re) (h, o, fi, m, n, rp) := hB.fr f1 (by decide) (by decide)
        have R21 : (ts2 σ 75 pos tu).2 74 pos = b2i R.2.2 := R2
        have e75 : (ts2 σ 75 pos tu).2 75 pos = tu := by rw [ts2_at, if_pos rfl]
        have o75 : ∀ k, k ≠ pos → (ts2 σ 75 pos tu).2 75 k = σ.2 75 k := fun k hk => by rw [ts2_at, if_neg hk]
        have hxa1 : Sfx s l ((ts2 σ 75 pos tu).1 28) := hxa
        have hxb1 : Sfx s lb ((ts2 σ 75 pos tu).1 29) := hxb
        generalize ts2 σ 75 pos tu = σ1 at f1 hs1 hB1 R21 e75 o75 hxa1 hxb1 ⊢
        (repeat (first | (refine TW.getf rfl rfl rfl (fun _ => ?_)) | (refine TW.pl rfl rfl ?_)))
        refine TW.cv1 rfl rfl rfl (Nat.le_of_ble_eq_true rfl) (T_runHolds (R := R) hs1 hB1 hw hxa1 hpa hxb1 hpb hn0 hps hpos R21) ?_
        rintro _ τ1 ⟨rfl, hf1, hr1, ho1⟩
        refine TW.bast (n := 60) rfl rfl rfl (by omega) (b2i_zo _) ?_
        rw [hpn]
        (repeat (first | (refine TW.getf rfl rfl rfl (fun _ => ?_)) | (refine TW.pl rfl rfl ?_)))
        refine TW.bald (n := 60) rfl rfl rfl (by omega) (fun _ => ?_)
        rw [hpn, ts2_at, if_pos rfl]
        refine TW.zret rfl (b2i_zo _) ⟨rfl, ((f1.mono (by decide) (by decide)).trans (hf1.mono (by decide) (by decide))).ts2 (by decide), ⟨?_, ?_, fun _ => ?_⟩, fun k hk => ⟨?_, ?_, ?_⟩⟩
        · rw [ts2_ne (by decide), hf1.2 75 (by decide)]; exact e75
        · rw [ts2_ne (by decide)]; exact hr1
        · rw [ts2_at, if_pos rfl]
        · rw [ts2_ne (by decide), ho1 k hk, f1.2 74 (by decide)]
        · rw [ts2_ne (by decide), hf1.2 75 (by decide)]; exact o75 k hk
        · rw [ts2_at, if_neg hk, hf1.2 76 (by decide), f1.2 76 (by decide)]
    · have h2n : w.2.2 = none := Classical.byContradiction (fun z => by have := k3.mpr z; omega)
      rw [h2n]
      dsimp only
      (repeat (first | (refine TW.getf rfl rfl rfl (fun _ => ?_)) | (refine TW.pl rfl rfl ?_)))
      refine TW.cv1 rfl rfl rfl (Nat.le_of_ble_eq_true rfl) (T_holds hs hB hw hxa hpa hn0) ?_
      rintro _ τ1 ⟨hf1, rfl⟩
      exact TW.zret rfl (b2i_zo _) ⟨rfl, hf1.mono (by decide) (by decide), hR.fr hf1 (by decide), RunFr.fr hf1 (by decide)⟩
  · have h1n : w.2.1 = none := Classical.byContradiction (fun z => by have := k2.mpr z; omega)
    rw [h1n]
    (repeat (first | (refine TW.getf rfl rfl rfl (fun _ => ?_)) | (refine TW.pl rfl rfl ?_)))
    exact TW.zret rfl (Or.inr rfl) ⟨rfl, TFr.rf, hR, RunFr.rf⟩
end TCom
