set_option maxRecDepth 100000
/-! the twin's stream: all of its state -/
abbrev fT : List Nat := [13, 14, 15, 17, 20, 23, 24, 25, 26, 27, 28, 29, 30, 33, 34, 35, 36, 37, 40, 41, 44, 64, 66, 67, 68, 69, 70, 71, 72, 73]
abbrev aT : List Nat := [6, 8, 10, 11, 19, 31, 32, 38, 39, 74, 75, 76]
/-- what a stream leaves alone -/
def TF (σ τ : TS) : Prop := TFr fT aT σ τ ∧ RSame (fun k => k < 480) σ τ ∧ (GS σ → GS τ)
/-- script, runs, counters -/
def TCn (σ : TS) (s : List Int) (os : List SOrd) (st tu : Nat) (ov : Bool) (ru : Nat → Nat → RG) : Prop := SgnIs σ s ∧ GS σ ∧ Place s os 0 0 ∧ (∀ k i, keyV os k i → RunIs σ (keyP s k i) (ru k i) ∧ (ru k i).1 ≤ tu) ∧ ((σ.1 73) = st ∧ st ≤ 400) ∧ (σ.1 69) = tu ∧ (σ.1 71) = b2i ov
/-- a stream with a line at work -/
def TSS (σ : TS) (s : List Int) (t : List SLine) (os : List SOrd) (n0 : Int) (S : SS) : Prop := TCn σ s os S.2.2.1 S.2.2.2.1 S.2.2.2.2.1 S.2.2.2.2.2 ∧ TWB σ t S.1 S.2.1 ∧ WS n0 S.1 S.2.1 ∧ S.1.2.2.1.length ≤ 1000 * S.2.2.1 ∧ 0 < S.2.2.2.1 ∧ S.2.2.2.1 + S.1.2.2.2.2.length ≤ t.length
def SsQ (σ : TS) (s : List Int) (t : List SLine) (os : List SOrd) (n0 : Int) (R : Nat ⊕ SS) (r : Option Int) (τ : TS) : Prop := TF σ τ ∧ match R with
  | .inl w => r = some (w : Int) ∧ 1 ≤ w ∧ w ≤ 8
  | .inr S1 => r = some 0 ∧ TSS τ s t os n0 S1
section TTss
variable {d : Nat} {σ τ υ : TS} {s l l1 l2 : List Int} {t pu re : List SLine} {du : List (List Int)} {x : SLine} {g ov : Bool} {W : WG} {B : BG} {fs as : List Nat} {os : List SOrd} {n n0 : Int} {od : SOrd0} {S : SS} {st tu k i : Nat} {ru : Nat → Nat → RG} {w : Bool × Option SAdr × Option SAdr} {h o : List (List Int)} {fi : Nat → List (List Int)} {m : Nat → Option Int} {rp : Bool}
theorem TF.rf : TF σ σ := ⟨TFr.rf, fun _ _ => rfl, id⟩
theorem TF.trans (h : TF σ τ) (h2 : TF τ υ) : TF σ υ := ⟨h.1.trans h2.1, fun j hj => (h2.2.1 j hj).trans (h.2.1 j hj), fun g => h2.2.2 (h.2.2 g)⟩
theorem TF.frg (h : TFr fs as σ τ) (h1 : ∀ k ∈ fs, k ∈ fT) (h2 : ∀ k ∈ as, k ∈ aT) (h6 : 6 ∉ as) (hg : GS τ) : TF σ τ := ⟨h.mono h1 h2, fun j _ => by rw [h.2 6 h6], fun _ => hg⟩
theorem TF.fr (h : TFr fs as σ τ) (h1 : ∀ k ∈ fs, k ∈ fT) (h2 : ∀ k ∈ as, k ∈ aT) (h6 : 6 ∉ as) (h25 : 25 ∉ fs := by decide) (h26 : 26 ∉ fs := by decide) : TF σ τ := ⟨h.mono h1 h2, fun j _ => by rw [h.2 6 h6], fun g => g.fr h h25 h26⟩
theorem SF.tf (h : SF σ τ) : TF σ τ := ⟨h.1.mono (by decide) (by decide), h.2, fun g => g.fr h.1 (by decide) (by decide)⟩
theorem TCn.fr (hc : TCn σ s os st tu ov ru) (hf : TFr fs as σ τ) (h1 : ∀ k ∈ [22, 25, 26, 69, 71, 73], k ∉ fs) (h2 : ∀ k ∈ [21, 74, 75, 76], k ∉ as) : TCn τ s os st tu ov ru := by
  obtain ⟨a, b, c, e, f, g, j⟩ := hc
  exact ⟨a.fr hf (h1 22 (by decide)) (h2 21 (by decide)), b.fr hf (h1 25 (by decide)) (h1 26 (by decide)), c, fun k i hv => ⟨(e k i hv).1.fr hf (fun q hq => h2 q (by simp at hq ⊢; omega)), (e k i hv).2⟩, ⟨(hf.1 73 (h1 73 (by decide))).trans f.1, f.2⟩, (hf.1 69 (h1 69 (by decide))).trans g, (hf.1 71 (h1 71 (by decide))).trans j⟩
/-- where an order stands is in the text -/
theorem keyP_lt (hs : SgnIs σ s) (hP : Place s os 0 0) (hv : keyV os k i) : keyP s k i < 60 := by
  obtain ⟨o, l2, e1, e2, e3, e4, e5, e6, e7⟩ := keyS_ord hP hv
  have := hs.2.1
  unfold keyP
  omega
/-- an order is come to -/
theorem T_comesS {x0 : Int} (hT : TSS σ s t os n0 (W, B, st, tu, ov, ru)) (hx : Sfx s l x0) (hwh : pWhere l = .inr (l1, w)) (hl1 : l1 ≠ []) (ho : oAll od = w.1 ∧ oFst od = w.2.1 ∧ oSnd od = w.2.2 ∧ oAct od = hd l1) : TM (d + 12) tk_comesTo [.inr 0, .inl x0] σ (fun r τ => TF σ τ ∧ (τ.1 64) = (σ.1 64) ∧ (st = 400 → r = some 7) ∧ (st ≠ 400 → stBar od = true → r = some 8) ∧ (st ≠ 400 → stBar od = false → r = some 0 ∧ WhK s l w l1 τ ∧ TSS τ s t os n0 (W, B, st + 1, tu, ov, ru))) := by
  obtain ⟨hC, hB, hw, hdu, htu, hre⟩ := hT
  obtain ⟨hs, hg, hP, hR, ⟨hc, hcR⟩, htn, hov⟩ := hC
  have hc : σ.1 73 = (st : Nat) := hc
  have hcR : st ≤ 400 := hcR
  refine (T_comesTo hs hg hx hwh hl1 ho hc hcR).mono (Nat.le_refl _) ?_
  rintro r τ ⟨⟨hf, hs1, hg1⟩, hq⟩
  refine ⟨TF.frg hf (by decide) (by decide) (by decide) hg1, hf.1 64 (by decide), fun z => ?_, fun z y => ?_, fun z y => ?_⟩
  · rw [if_pos z] at hq
    exact hq
  · rw [if_neg z] at hq
    rw [hq.2.2, if_pos y]
  · rw [if_neg z] at hq
    obtain ⟨h73, hk, hr⟩ := hq
    rw [if_neg (by rw [y]; decide)] at hr
    refine ⟨hr, hk, ⟨hs1, hg1, hP, fun k i hv => ⟨(hR k i hv).1.fr hf (by decide), (hR k i hv).2⟩, ⟨h73, by show st + 1 ≤ 400; omega⟩, (hf.1 69 (by decide)).trans htn, (hf.1 71 (by decide)).trans hov⟩, hB.fr hf (by decide) (by decide), hw, ?_, htu, hre⟩
    have hdu : W.2.2.1.length ≤ 1000 * st := hdu
    show W.2.2.1.length ≤ 1000 * (st + 1)
    omega
/-- whether its order is to be done -/
theorem T_whereS {x0 : Int} (hT : TSS σ s t os n0 ((x, false, du, pu, re), (h, o, fi, m, n, rp), st, tu, ov, ru)) (hv : keyV os k i) (hl : keyS s k i = l) (hx : Sfx s l x0) (hwk : WhK s l w l1 σ) (hwh : pWhere l = .inr (l1, w)) (ho : oAll od = w.1 ∧ oFst od = w.2.1 ∧ oSnd od = w.2.2 ∧ oAct od = hd l1) (hn0 : n0 < 890000) : TM (d + 8) tk_whereHolds [.inr 0, .inl x0] σ (fun r τ => TF σ τ ∧ ((τ.1 64) = (σ.1 64) ∧ (τ.1 30) = (σ.1 30) ∧ (τ.1 27) = (σ.1 27)) ∧ r = some (b2i (stHold t.length (x, false, du, pu, re) (h, o, fi, m, n, rp) tu od (ru k i)).1) ∧ TSS τ s t os n0 ((x, false, du, pu, re), (h, o, fi, m, n, rp), st, tu, ov, rup ru k i (stHold t.length (x, false, du, pu, re) (h, o, fi, m, n, rp) tu od (ru k i)).2)) := by
  obtain ⟨hC, hB, hw, hdu, htu, hre⟩ := hT
  have hC' := hC
  obtain ⟨hs, hg, hP, hR, ⟨hc, hcR⟩, htn, hov⟩ := hC'
  have hre : tu + re.length ≤ t.length := hre
  have htu : 0 < tu := htu
  have h40 := hB.1.1.2.1
  have hx' : x0 = ((keyP s k i : Nat) : Int) := keyP_sfx (by rw [hl]; exact hx)
  obtain ⟨hRk, hRt⟩ := hR k i hv
  have hRt : (ru k i).1 ≤ tu := hRt
  have hRu : (stHold t.length (x, false, du, pu, re) (h, o, fi, m, n, rp) tu od (ru k i)).2.1 ≤ tu := by
    unfold stHold
    split
    · exact hRt
    · exact hRt
    · split
      · exact hRt
      · exact Nat.le_refl _
  refine (T_whereHolds (pos := keyP s k i) hs hB hw hwk ⟨ho.2.1, ho.2.2.1⟩ (pWhere_ok hwh) hn0 hx' (keyP_lt hs hP hv) hRk htn htu (by omega) (by omega)).mono (Nat.le_refl _) ?_
  rintro r τ ⟨hr, hf, hr1, hrf⟩
  have hf' : TFr fH [31, 32, 38, 39, 74, 75, 76] σ τ := hf
  refine ⟨TF.fr hf (by decide) (by decide) (by decide), ⟨hf.1 64 (by decide), hf.1 30 (by decide), hf.1 27 (by decide)⟩, hr, ⟨hs.fr hf (by decide) (by decide), hg.fr hf (by decide) (by decide), hP, fun k' i' hv' => ?_, ⟨(hf.1 73 (by decide)).trans hc, hcR⟩, (hf.1 69 (by decide)).trans htn, (hf.1 71 (by decide)).trans hov⟩, hB.fr hf (by decide) (by decide), hw, hdu, htu, hre⟩
  show RunIs τ (keyP s k' i') (rup ru k i _ k' i') ∧ (rup ru k i _ k' i').1 ≤ tu
  unfold rup
  by_cases e : k' = k ∧ i' = i
  · rw [if_pos e, e.1, e.2]
    exact ⟨hr1, hRu⟩
  · rw [if_neg e]
    obtain ⟨q1, q2⟩ := hR k' i' hv'
    obtain ⟨r1, r2, r3⟩ := hrf _ (key_ne hP hv' hv e)
    refine ⟨?_, q2⟩
    unfold RunIs at q1 ⊢
    rw [r1, r2, r3]
    exact q1
end TTss
