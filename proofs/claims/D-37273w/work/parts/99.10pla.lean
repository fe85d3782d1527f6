set_option maxRecDepth 100000
/-! the twin plays a script line by line -/
abbrev fPl : List Nat := [12, 13, 14, 15, 16, 17, 18, 20, 23, 24, 25, 26, 27, 28, 29, 30, 33, 34, 35, 36, 37, 40, 41, 44, 50, 51, 52, 53, 54, 61, 62, 63, 64, 65, 66, 67, 68, 69, 70, 71, 72, 73]
abbrev aPl : List Nat := [6, 7, 8, 10, 11, 19, 31, 32, 38, 39, 47, 48, 49, 55, 56, 57, 58, 59, 60, 74, 75, 76]
def PlyQ (σ : TS) (n : Int) (cl : Nat) (R : Int × Nat × St × List SDeed) (r : Option Int) (τ : TS) : Prop := (TFr fPl aPl σ τ ∧ GS τ ∧ (τ.1 63) = cl) ∧ r = some R.1 ∧ (τ.1 18) = R.2.1 ∧ TA0 R.2.2.1 τ ∧ DeedsIs τ R.2.2.2 ∧ WFn n R.2.2.1
section TPla
variable {d : Nat} {σ τ υ : TS} {s : List Int} {A : St} {os : List SOrd} {ds : List SDeed} {t : List SLine} {p : Nat} {h o : List (List Int)} {fi : Nat → List (List Int)} {m : Nat → Option Int} {n : Int} {rp : Bool}
theorem RSame.nox {P : Nat → Prop} {fs as : List Nat} {σ τ : TS} (h : TFr fs as σ τ) (h6 : 6 ∉ as) : RSame P σ τ := fun j _ => by rw [h.2 6 h6]
theorem WF.wsp0 (hw : WF (t, p, h, o, fi, m, n, rp)) : WSP n ((0, []), true, [], [], t) (h, o, stEmpty os fi, m, n, rp) := by
  obtain ⟨-, w2, w3, w4, w5, w6⟩ := hw.tt
  have e : allL ((0, []), true, [], [], t) = t := rfl
  have hfe : ∀ k, ((stEmpty os fi) k).length ≤ 40 ∧ ∀ r ∈ (stEmpty os fi) k, RowOk r := by
    have h1 : ∀ (od : SOrd0) (f : Nat → List (List Int)), (∀ k, (f k).length ≤ 40 ∧ ∀ r ∈ f k, RowOk r) → ∀ k, (stEmpty1 f od k).length ≤ 40 ∧ ∀ r ∈ stEmpty1 f od k, RowOk r := by
      intro od f hf k
      unfold stEmpty1
      split
      · unfold fup
        split
        · exact ⟨Nat.zero_le _, fun r hr => by cases hr⟩
        · exact hf k
      · exact hf k
    have h2 : ∀ (ods : List SOrd0) (f : Nat → List (List Int)), (∀ k, (f k).length ≤ 40 ∧ ∀ r ∈ f k, RowOk r) → ∀ k, (ods.foldl stEmpty1 f k).length ≤ 40 ∧ ∀ r ∈ ods.foldl stEmpty1 f k, RowOk r := by
      intro ods
      induction ods with
      | nil => intro f hf; exact hf
      | cons od ods ih => intro f hf; exact ih _ (h1 od f hf)
    have h3 : ∀ (os : List SOrd) (f : Nat → List (List Int)), (∀ k, (f k).length ≤ 40 ∧ ∀ r ∈ f k, RowOk r) → ∀ k, (stEmpty os f k).length ≤ 40 ∧ ∀ r ∈ stEmpty os f k, RowOk r := by
      intro os
      induction os with
      | nil => intro f hf; exact hf
      | cons o os ih => intro f hf; exact ih _ (h2 o.2 _ (h1 o.1 f hf))
    exact h3 os fi hw.ff
  exact ⟨by rw [e]; exact w3, by rw [e]; exact w4, fun r hr => (by cases hr), by rw [e]; exact w5, ⟨w6, Int.le_refl _, by show n ≤ n + ((0 : Nat) : Int); omega⟩, hw.hh, hw.oo, hfe, Nat.zero_le _, w2⟩
theorem WSP.wf {n0 : Int} {x : SLine} {g : Bool} {du : List (List Int)} {pu : List SLine} (hw : WSP n0 (x, g, du, pu, []) (h, o, fi, m, n, rp)) : WFn n0 (pu, pu.length, h, o, fi, m, n, rp) := by
  have hw : WS n0 (x, true, [], pu, []) (h, o, fi, m, n, rp) := hw
  have e : allL (x, true, [], pu, []) = pu := by show pu ++ [] ++ [] = pu; simp
  obtain ⟨a1, a2, a3, a4, a5, a6, a7, a8, a9, a10⟩ := hw.tt
  rw [e] at a1 a2 a4
  have a9 : pu.length ≤ 40 := a9
  have a5 : 0 ≤ n0 ∧ n0 ≤ n ∧ n ≤ n0 + (pu.length : Nat) := a5
  exact ⟨⟨⟨Nat.le_refl _, fun z => List.length_pos_iff.mpr z⟩, a9, a1, a2, a4, by show (0 : Int) ≤ n; omega, a6, a7, a8⟩, a5.2.1, by show n ≤ n0 + 40; omega⟩
/-- what a stream answers doesn't hang on what was replaced ahead of it -/
theorem sStream_rp {pl : Nat} (b : Bool) : (sStream os pl (setR A b) ds).1 = (sStream os pl A ds).1 ∧ (sStream os pl (setR A b) ds).2.1 = (sStream os pl A ds).2.1 ∧ (∃ b', (sStream os pl (setR A b) ds).2.2.1 = setR (sStream os pl A ds).2.2.1 b') ∧ (sStream os pl (setR A b) ds).2.2.2 = (sStream os pl A ds).2.2.2 := by
  obtain ⟨t, p, h, o, fi, m, n, rp⟩ := A
  cases t with
  | nil => exact ⟨rfl, rfl, ⟨b, rfl⟩, rfl⟩
  | cons y re =>
    have e : ∀ rp', stAll (re.length + 1) os (re.length + 1) (((0, []), true, [], [], y :: re), (h, o, stEmpty os fi, m, n, rp'), 0, 0, false, fun _ _ => (0, false, false)) = match stLin (re.length + 1) os 402 0 ((y, false, [], [], re), (h, o, stEmpty os fi, m, n, false), 0, 1, false, fun _ _ => (0, false, false)) with
        | .inl w => .inl w
        | .inr S1 => stAll (re.length + 1) os re.length S1 := fun rp' => stAll_succ (by simp) rfl
    have u : ∀ rp', sStream os pl (y :: re, p, h, o, fi, m, n, rp') ds = match stAll (re.length + 1) os (re.length + 1) (((0, []), true, [], [], y :: re), (h, o, stEmpty os fi, m, n, rp'), 0, 0, false, fun _ _ => (0, false, false)) with
        | .inl w => (-1, w, (y :: re, p, h, o, fi, m, n, rp'), ds)
        | .inr ((_, _, _, pu, _), (h1, o1, fi1, m1, n1, rp1), st, _) => ((st : Int), 0, (pu, pu.length, h1, o1, fi1, m1, n1, rp1), keepD ds (pl, y :: re, p, m)) := fun rp' => rfl
    show (sStream os pl (y :: re, p, h, o, fi, m, n, b) ds).1 = _ ∧ _
    rw [show setR (y :: re, p, h, o, fi, m, n, rp) b = (y :: re, p, h, o, fi, m, n, b) from rfl, u b, u rp, e b, e rp]
    cases stLin (re.length + 1) os 402 0 ((y, false, [], [], re), (h, o, stEmpty os fi, m, n, false), 0, 1, false, fun _ _ => (0, false, false)) with
    | inl w => exact ⟨rfl, rfl, ⟨b, rfl⟩, rfl⟩
    | inr S1 =>
      dsimp only
      cases stAll (re.length + 1) os re.length S1 with
      | inl w => exact ⟨rfl, rfl, ⟨b, rfl⟩, rfl⟩
      | inr q =>
        obtain ⟨⟨x, g, du, pu, re'⟩, ⟨h1, o1, fi1, m1, n1, rp1⟩, st, q⟩ := q
        exact ⟨rfl, rfl, ⟨rp1, rfl⟩, rfl⟩
theorem T_playLines {cl : Nat} (hs : SgnIs σ s) (hsl : s.length < 60) (hg : GS σ) (hA : TA (t, p, h, o, fi, m, n, rp) σ) (hw : WF (t, p, h, o, fi, m, n, rp)) (hos : sOrders s = .inr os) (hd : DeedsIs σ ds) (hcl : (σ.1 63) = cl) (hclR : cl < 1000000) (hn : n < 890000) : TM (d + 23) tk_playLines [.inr 0] σ (PlyQ σ n (cl + 1) (sStream os (cl + 1) (t, p, h, o, fi, m, n, rp) ds)) := by
  obtain ⟨hP, h0⟩ := sOrders_place hos
  have h40 := hw.2.1
  have h40 : t.length ≤ 40 := h40
  have ht12 : (σ.1 12) = t.length := hA.1.1
  refine TM.of rfl rfl ?_
  (repeat (first | (refine TW.getf rfl rfl rfl (fun _ => ?_)) | (refine TW.pl rfl rfl ?_)))
  refine TW.putg rfl rfl (by omega) (fun τ1 v1 f1 => ?_)
  (repeat (first | (refine TW.getf rfl rfl rfl (fun _ => ?_)) | (refine TW.pl rfl rfl ?_)))
  refine TW.putg rfl rfl (by omega) (fun τ2 v2 f2 => ?_)
  (repeat (first | (refine TW.getf rfl rfl rfl (fun _ => ?_)) | (refine TW.pl rfl rfl ?_)))
  have h12 : (τ2.1 12) = t.length := (f2.1 12 (by decide)).trans ((f1.1 12 (by decide)).trans ht12)
  refine TW.putg rfl rfl (by omega) (fun τ3 v3 f3 => ?_)
  (repeat (first | (refine TW.getf rfl rfl rfl (fun _ => ?_)) | (refine TW.pl rfl rfl ?_)))
  refine TW.putg rfl rfl (by omega) (fun τ4 v4 f4 => ?_)
  (repeat (first | (refine TW.getf rfl rfl rfl (fun _ => ?_)) | (refine TW.pl rfl rfl ?_)))
  refine TW.putg rfl rfl (by omega) (fun τ5 v5 f5 => ?_)
  (repeat (first | (refine TW.getf rfl rfl rfl (fun _ => ?_)) | (refine TW.pl rfl rfl ?_)))
  refine TW.putb rfl rfl (Or.inl rfl) (fun τ6 v6 f6 => ?_)
  (repeat (first | (refine TW.getf rfl rfl rfl (fun _ => ?_)) | (refine TW.pl rfl rfl ?_)))
  refine TW.putg rfl rfl (by omega) (fun τ7 v7 f7 => ?_)
  have F7 : TFr [63, 73, 65, 66, 13, 71, 69] [] σ τ7 := (f1.mono (by decide) (by decide)).trans ((f2.mono (by decide) (by decide)).trans ((f3.mono (by decide) (by decide)).trans ((f4.mono (by decide) (by decide)).trans ((f5.mono (by decide) (by decide)).trans ((f6.mono (by decide) (by decide)).trans (f7.mono (by decide) (by decide)))))))
  have c63 : τ7.1 63 = ((cl + 1 : Nat) : Int) := by
    rw [f7.1 63 (by decide), f6.1 63 (by decide), f5.1 63 (by decide), f4.1 63 (by decide), f3.1 63 (by decide), f2.1 63 (by decide), v1]
    omega
  have c73 : τ7.1 73 = 0 := by rw [f7.1 73 (by decide), f6.1 73 (by decide), f5.1 73 (by decide), f4.1 73 (by decide), f3.1 73 (by decide), v2]
  have c65 : τ7.1 65 = t.length := by rw [f7.1 65 (by decide), f6.1 65 (by decide), f5.1 65 (by decide), f4.1 65 (by decide), v3, h12]
  have c66 : τ7.1 66 = 0 := by rw [f7.1 66 (by decide), f6.1 66 (by decide), f5.1 66 (by decide), v4]
  have c13 : τ7.1 13 = 0 := by rw [f7.1 13 (by decide), f6.1 13 (by decide), v5]
  have c71 : τ7.1 71 = 0 := by rw [f7.1 71 (by decide), v6]
  have c69 : τ7.1 69 = 0 := v7
  (iterate 2 (first | (refine TW.getf rfl rfl rfl (fun _ => ?_)) | (refine TW.pl rfl rfl ?_)))
  have behind : ∀ (τ8 : TS) (v1 : Option TV), TFr [63, 73, 65, 66, 13, 71, 69] [74, 75] σ τ8 → τ8.1 = τ7.1 → (∀ k, k < 60 → τ8.2 74 k = 0 ∧ τ8.2 75 k = 0) → TW (d + 22) tc_playLines 42 [some (.inr 0), v1] [] τ8 (PlyQ σ n (cl + 1) (sStream os (cl + 1) (t, p, h, o, fi, m, n, rp) ds)) := by
    intro τ8 v1 F8 e8 z8
    have hA8 : TA (t, p, h, o, fi, m, n, rp) τ8 := ((hA.t0.fr F8 (by decide) (by decide))).ta ((F8.1 44 (by decide)).trans hA.2.2.2.2.2)
    have hs8 := hs.fr F8 (by decide) (by decide)
    have hg8 := hg.fr F8 (by decide) (by decide)
    (iterate 1 (first | (refine TW.getf rfl rfl rfl (fun _ => ?_)) | (refine TW.pl rfl rfl ?_)))
    refine TW.cv0 rfl rfl rfl (Nat.le_of_ble_eq_true rfl) (T_save (d := d + 21)) ?_
    rintro _ τ9 ⟨rfl, sv9, sm9, F9⟩
    have hsv9 : SavA (t, p, h, o, fi, m, n, rp) τ9 := ⟨τ8, hA8.t0, sv9⟩
    have hA9 : TA (t, p, h, o, fi, m, n, rp) τ9 := by
      refine (TA0.cells hA8.t0 (fun j hj => ?_) (fun j hj => ?_) (fun j hj => ?_) (fun j hj => ?_) (fun k hk => ?_)).ta ((F9.1 44 (by decide)).trans hA8.2.2.2.2.2)
      · exact sm9 j (by omega)
      · rw [F9.2 7 (by decide)]
      · rw [F9.2 10 (by decide)]
      · rw [F9.2 11 (by decide)]
      · exact F9.1 k (by simp at hk ⊢; omega)
    have hs9 := hs8.fr F9 (by decide) (by decide)
    have hg9 := hg8.fr F9 (by decide) (by decide)
    (iterate 1 (first | (refine TW.getf rfl rfl rfl (fun _ => ?_)) | (refine TW.pl rfl rfl ?_)))
    refine TW.cv0 rfl rfl rfl (Nat.le_of_ble_eq_true rfl) (T_emptyFiles (d := d + 5) hs9 hg9 hP hA9) ?_
    rintro _ τa ⟨rfl, ⟨Fa, hsa, hga⟩, hAa⟩
    have FA : TFr [63, 73, 65, 66, 13, 71, 69, 50, 51, 52, 53, 54, 23, 24, 25, 26, 27, 28, 29, 30, 33, 34, 35, 36, 37] [74, 75, 6, 47, 48, 49, 11, 31, 32] σ τa := (F8.mono (by decide) (by decide)).trans ((F9.mono (by decide) (by decide)).trans (Fa.mono (by decide) (by decide)))
    have F7a : ∀ k, k ∈ [63, 73, 65, 66, 13, 71, 69] → τa.1 k = τ7.1 k := fun k hk => by
      rw [Fa.1 k (by simp at hk ⊢; omega), F9.1 k (by simp at hk ⊢; omega), e8]
    have hsva := hsv9.fr Fa (RSame.nox Fa (by decide)) (by decide) (by decide)
    (iterate 2 (first | (refine TW.getf rfl rfl rfl (fun _ => ?_)) | (refine TW.pl rfl rfl ?_)))
    have hT0 : TSP τa s t os n (((0, []), true, [], [], t), (h, o, stEmpty os fi, m, n, rp), 0, 0, false, fun _ _ => (0, false, false)) := by
      refine ⟨⟨hsa, hga, hP, fun k i _ => ⟨⟨?_, ?_, fun z => absurd rfl z⟩, Nat.le_refl _⟩, ⟨?_, Nat.zero_le _⟩, ?_, ?_⟩, ⟨⟨hAa.1, ?_, ?_, ?_, Nat.le_refl _, p, hAa.2.1⟩, ⟨?_, Nat.zero_le _, fun k hk => absurd hk (Nat.not_lt_zero _)⟩, hAa.2.2.1, ⟨m, [], hAa.2.2.2.1, unmL_nil.symm, fun z hz => by cases hz⟩, hAa.2.2.2.2.1, hAa.2.2.2.2.2⟩, hw.wsp0, by show 0 + t.length ≤ t.length; omega⟩
      · rw [Fa.2 75 (by decide), F9.2 75 (by decide)]
        exact (z8 _ (by unfold keyP; omega)).2
      · rw [Fa.2 74 (by decide), F9.2 74 (by decide)]
        exact (z8 _ (by unfold keyP; omega)).1
      · rw [F7a 73 (by decide), c73]; rfl
      · rw [F7a 69 (by decide), c69]; rfl
      · rw [F7a 71 (by decide), c71]; rfl
      · rw [F7a 65 (by decide), c65]
      · rw [F7a 66 (by decide), c66]
        show (0 : Int) = ((t.length - t.length : Nat) : Int)
        omega
      · show t = t.drop (t.length - t.length)
        rw [Nat.sub_self, List.drop_zero]
      · rw [F7a 13 (by decide), c13]; rfl
    have hda := hd.same FA (by decide) (by decide)
    have e0 : sStream os (cl + 1) (t, p, h, o, fi, m, n, rp) ds = match stAll t.length os t.length (((0, []), true, [], [], t), (h, o, stEmpty os fi, m, n, rp), 0, 0, false, fun _ _ => (0, false, false)) with
      | .inl w => (-1, w, (t, p, h, o, fi, m, n, rp), ds)
      | .inr ((_, _, _, pu, _), (h1, o1, fi1, m1, n1, rp1), st, _) => ((st : Int), 0, (pu, pu.length, h1, o1, fi1, m1, n1, rp1), keepD ds (cl + 1, t, p, m)) := rfl
    refine T_allLines hn t.length _ τa (by show t.length ≤ t.length + 0; omega) hT0 (fun τb w Fb eb hw9 => ?_) (fun τb S1 Fb eb hTb => ?_)
    · rw [e0, eb]
      (repeat (first | (refine TW.getf rfl rfl rfl (fun _ => ?_)) | (refine TW.pl rfl rfl ?_)))
      refine TW.putg rfl rfl (by omega) (fun τc vc fc => ?_)
      (repeat (first | (refine TW.getf rfl rfl rfl (fun _ => ?_)) | (refine TW.pl rfl rfl ?_)))
      refine TW.br rfl rfl (by first | omega | exact b2i_R _ | exact ⟨b2i_R _, by omega⟩) (fun c1 => ?_) (fun c1 => ?_)
      · omega
      (repeat (first | (refine TW.getf rfl rfl rfl (fun _ => ?_)) | (refine TW.pl rfl rfl ?_)))
      have hsvb := hsva.fr Fb.1 Fb.2.1 (by decide) (by decide)
      have hsvc := hsvb.fr fc (RSame.nox fc (by decide)) (by decide) (by decide)
      refine TW.cv0 rfl rfl rfl (Nat.le_of_ble_eq_true rfl) (T_comeBack (d := d + 21) hsvc) ?_
      rintro _ τd ⟨rfl, hAd, smd, Fd⟩
      have FF : TFr fPl aPl σ τd := (FA.mono (by decide) (by decide)).trans ((Fb.1.mono (by decide) (by decide)).trans ((fc.mono (by decide) (by decide)).trans (Fd.mono (by decide) (by decide))))
      have fsub : TFr [12, 13, 14, 15, 16, 17, 18, 20, 23, 24, 25, 26, 27, 28, 29, 30, 33, 34, 35, 36, 37, 40, 41, 44, 64, 66, 67, 68, 69, 70, 71, 72, 73] [6, 7, 8, 10, 11, 19, 31, 32, 38, 39, 74, 75, 76] τa τd := (Fb.1.mono (by decide) (by decide)).trans ((fc.mono (by decide) (by decide)).trans (Fd.mono (by decide) (by decide)))
      (repeat (first | (refine TW.getf rfl rfl rfl (fun _ => ?_)) | (refine TW.pl rfl rfl ?_)))
      have hgb : GS τd := ((Fb.2.2 hga).fr fc (by decide) (by decide)).fr Fd (by decide) (by decide)
      exact TW.iret rfl ⟨⟨FF, hgb, by rw [fsub.1 63 (by decide), F7a 63 (by decide), c63]⟩, rfl, by rw [Fd.1 18 (by decide), vc], hAd, hda.same fsub (by decide) (by decide), hw, Int.le_refl _, by show n ≤ n + 40; omega⟩
    · have hreS := stAll_re t.length (((0, []), true, [], [], t), (h, o, stEmpty os fi, m, n, rp), 0, 0, false, fun _ _ => (0, false, false)) S1 (Nat.le_refl _) (fun z => by cases z) eb
      obtain ⟨⟨x, g, du, pu, re⟩, ⟨h1, o1, fi1, m1, n1, rp1⟩, st, tu, ov, ru⟩ := S1
      have hreS : re = [] := hreS
      subst hreS
      rw [e0, eb]
      obtain ⟨hCb, ⟨hRb, hPub, hTRb, ⟨mT, gone, hM1, hM2, hM3⟩, hnb, hrb⟩, hwb, htb⟩ := hTb
      have hwb : WS n (x, true, [], pu, []) (h1, o1, fi1, m1, n1, rp1) := hwb
      have hmem : ∀ k y, m1 k = some y → y ∈ idsOfL pu := fun k y hy => by
        have := hwb.tt.2.2.2.1 k y hy
        have e9 : allL (x, true, [], pu, []) = pu := by
          show pu ++ [] ++ [] = pu
          simp
        rw [e9] at this
        exact this
      have hM3' : ∀ z ∈ gone, z ∉ idsOfL pu := fun z hz => by
        have := (hM3 z hz).1
        have e9 : PLn (x, g, du, pu, []) = pu := by
          show pu ++ [] = pu
          simp
        rw [e9] at this
        exact this
      (repeat (first | (refine TW.getf rfl rfl rfl (fun _ => ?_)) | (refine TW.pl rfl rfl ?_)))
      refine TW.putg rfl rfl (by omega) (fun τc vc fc => ?_)
      (repeat (first | (refine TW.getf rfl rfl rfl (fun _ => ?_)) | (refine TW.pl rfl rfl ?_)))
      refine TW.br rfl rfl (by first | omega | exact b2i_R _ | exact ⟨b2i_R _, by omega⟩) (fun c1 => ?_) (fun c1 => ?_)
      rotate_left
      · omega
      have hsvb := hsva.fr Fb.1 Fb.2.1 (by decide) (by decide)
      have hsvc := hsvb.fr fc (RSame.nox fc (by decide)) (by decide) (by decide)
      have smc : RSame (fun _ => False) τb τc := RSame.no fc (by decide)
      have hPuc : PutIs τc pu := ⟨(fc.1 13 (by decide)).trans hPub.1, hPub.2.1, fun k hk => ⟨(hPub.2.2 k hk).1.same smc (fun z => z), by rw [fc.2 8 (by decide)]; exact (hPub.2.2 k hk).2⟩⟩
      have hMc : MarksIs τc mT := hM1.fr (fc.2 10 (by decide))
      (repeat (first | (refine TW.getf rfl rfl rfl (fun _ => ?_)) | (refine TW.pl rfl rfl ?_)))
      refine TW.cv0 rfl rfl rfl (Nat.le_of_ble_eq_true rfl) (T_becomeNew (d := d + 20) hPuc hMc hM2 hM3' hmem) ?_
      rintro _ τd ⟨rfl, ⟨Fd, smd⟩, hTd, hpd, hMd⟩
      have hsvd := hsvc.fr Fd (fun j hj => smd j (fun z => hj (by omega))) (by decide) (by decide)
      have fbd : TFr [12, 13, 14, 15, 16, 17, 18, 20, 23, 24, 25, 26, 27, 28, 29, 30, 33, 34, 35, 36, 37, 40, 41, 44, 64, 66, 67, 68, 69, 70, 71, 72, 73] [6, 7, 8, 10, 11, 19, 31, 32, 38, 39, 74, 75, 76] τa τd := (Fb.1.mono (by decide) (by decide)).trans ((fc.mono (by decide) (by decide)).trans (Fd.mono (by decide) (by decide)))
      have hdd := hda.same fbd (by decide) (by decide)
      have hcd : (τd.1 63) = ((cl + 1 : Nat) : Int) := by rw [fbd.1 63 (by decide), F7a 63 (by decide), c63]
      (repeat (first | (refine TW.getf rfl rfl rfl (fun _ => ?_)) | (refine TW.pl rfl rfl ?_)))
      refine TW.cv0 rfl rfl rfl (Nat.le_of_ble_eq_true rfl) (T_noteDeed (d := d + 21) hsvd hdd hcd) ?_
      rintro _ τe ⟨rfl, hde, Fe⟩
      have hcnt : (τb.1 73) = st := hCb.2.2.2.2.1.1
      have hste : (τe.1 73) = st := by rw [Fe.1 73 (by decide), Fd.1 73 (by decide), fc.1 73 (by decide), hcnt]
      (repeat (first | (refine TW.getf rfl rfl rfl (fun _ => ?_)) | (refine TW.pl rfl rfl ?_)))
      have hge : GS τe := by
        have hgb : GS τb := hCb.2.1
        exact ((hgb.fr fc (by decide) (by decide)).fr Fd (by decide) (by decide)).fr Fe (by decide) (by decide)
      have FF : TFr fPl aPl σ τe := (FA.mono (by decide) (by decide)).trans ((fbd.mono (by decide) (by decide)).trans (Fe.mono (by decide) (by decide)))
      have hTe : TextIs τe pu := hTd.fr (Fe.1 12 (by decide)) (Fe.2 6 (by decide)) (Fe.2 7 (by decide))
      have hTRc : TR τc h1 o1 fi1 := hTRb.same fc (RSame.no fc (by decide)) (fun k hk => by simp at hk ⊢; omega) (by decide) (fun k z => z.elim)
      have hTRe : TR τe h1 o1 fi1 := by
        have g1 : TR τd h1 o1 fi1 := hTRc.same Fd smd (fun k hk => by simp at hk ⊢; omega) (by decide) (fun k z => by omega)
        exact g1.same Fe (RSame.no Fe (by decide)) (fun k hk => by simp at hk ⊢; omega) (by decide) (fun k z => z.elim)
      refine TW.iret rfl ⟨⟨FF, hge, by rw [Fe.1 63 (by decide)]; exact hcd⟩, congrArg some hste, by rw [Fe.1 18 (by decide), Fd.1 18 (by decide), vc]; rfl, ⟨hTe, by rw [Fe.1 16 (by decide)]; exact hpd, hTRe, hMd.fr (Fe.2 10 (by decide)), by rw [Fe.1 17 (by decide), Fd.1 17 (by decide), fc.1 17 (by decide)]; exact hnb⟩, hde, WSP.wf (g := true) (du := []) hwb⟩
  have loop : ∀ (N j : Nat) (τ8 : TS), j + N = 60 → TFr [63, 73, 65, 66, 13, 71, 69] [74, 75] σ τ8 → τ8.1 = τ7.1 → (∀ k, k < j → τ8.2 74 k = 0 ∧ τ8.2 75 k = 0) → TW (d + 22) tc_playLines 27 [some (.inr 0), some (.inl j)] [] τ8 (PlyQ σ n (cl + 1) (sStream os (cl + 1) (t, p, h, o, fi, m, n, rp) ds)) := by
    intro N
    induction N with
    | zero =>
      intro j τ8 hj F8 e8 z8
      (repeat (first | (refine TW.getf rfl rfl rfl (fun _ => ?_)) | (refine TW.pl rfl rfl ?_)))
      refine TW.br rfl rfl (by first | omega | exact b2i_R _ | exact ⟨b2i_R _, by omega⟩) (fun c1 => ?_) (fun c1 => ?_)
      · exact behind τ8 _ F8 e8 (fun k hk => z8 k (by omega))
      · omega
    | succ N ih =>
      intro j τ8 hj F8 e8 z8
      have hjt : ((j : Int)).toNat = j := rfl
      (repeat (first | (refine TW.getf rfl rfl rfl (fun _ => ?_)) | (refine TW.pl rfl rfl ?_)))
      refine TW.br rfl rfl (by first | omega | exact b2i_R _ | exact ⟨b2i_R _, by omega⟩) (fun c1 => ?_) (fun c1 => ?_)
      · omega
      (repeat (first | (refine TW.getf rfl rfl rfl (fun _ => ?_)) | (refine TW.pl rfl rfl ?_)))
      refine TW.bast (n := 60) rfl rfl rfl (by omega) (Or.inl rfl) ?_
      (repeat (first | (refine TW.getf rfl rfl rfl (fun _ => ?_)) | (refine TW.pl rfl rfl ?_)))
      refine TW.iast (n := 60) rfl rfl rfl (by omega) (by omega) ?_
      (iterate 2 (first | (refine TW.getf rfl rfl rfl (fun _ => ?_)) | (refine TW.pl rfl rfl ?_)))
      refine ih (j + 1) _ (by omega) ((F8.ts2 (by decide)).ts2 (by decide)) e8 (fun k hk => ?_)
      rw [ts2_ne (by decide), ts2_at, ts2_at, ts2_ne (by decide), hjt]
      by_cases z : k = j
      · rw [if_pos z, if_pos z]; exact ⟨rfl, rfl⟩
      · rw [if_neg z, if_neg z]; exact z8 k (by omega)
  exact loop 60 0 τ7 rfl (F7.mono (by decide) (by decide)) rfl (fun k hk => absurd hk (Nat.not_lt_zero _))
end TPla
