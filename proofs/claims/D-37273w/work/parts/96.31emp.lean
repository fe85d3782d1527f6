set_option maxRecDepth 100000
/-! the twin empties files before a stream -/
section TEmp
variable {d : Nat} {σ τ υ : TS} {s l l1 l2 : List Int} {t : List SLine} {fs as : List Nat} {os : List SOrd} {n : Int} {p : Nat} {od : SOrd0} {h o : List (List Int)} {fi : Nat → List (List Int)} {m : Nat → Option Int} {rp : Bool}
theorem T_emptyFile {x : Int} (hs : SgnIs σ s) (hA : TA (t, p, h, o, fi, m, n, rp) σ) (hx : Sfx s l x) (hl0 : l ≠ []) (hact : oAct od = hd l) (hp : hd l = 119 → (48 ≤ hd l.tail ∧ hd l.tail ≤ 51) ∧ oNum od = hd l.tail - 48) : TM (d + 1) tk_emptyFile [.inr 0, .inl x] σ (fun r τ => r = none ∧ TFr [] [11] σ τ ∧ TA (t, p, h, o, stEmpty1 fi od, m, n, rp) τ) := by
  have ha := hs.at hx hl0
  unfold stEmpty1
  rw [hact]
  refine TM.of rfl rfl ?_
  (repeat (first | (refine TW.getf rfl rfl rfl (fun _ => ?_)) | (refine TW.pl rfl rfl ?_)))
  refine TW.iald (n := 60) rfl rfl rfl (by omega) (fun _ => ?_)
  rw [ha.1]
  (repeat (first | (refine TW.getf rfl rfl rfl (fun _ => ?_)) | (refine TW.pl rfl rfl ?_)))
  refine TW.br rfl rfl (by first | omega | exact b2i_R _ | exact ⟨b2i_R _, by omega⟩) (fun c1 => ?_) (fun c1 => ?_)
  · rw [if_neg c1]
    exact TW.vret rfl ⟨rfl, TFr.rf, hA⟩
  · rw [if_pos c1]
    obtain ⟨hR, hN⟩ := hp c1
    have ht0 : l.tail ≠ [] := fun z => by rw [z] at hR; exact absurd hR.1 (by decide)
    have hx1 : Sfx s l.tail (x + 1) := hx.step hl0 rfl
    have ha1 := hs.at hx1 ht0
    obtain ⟨q, hq⟩ : ∃ q : Nat, hd l.tail - 48 = q := ⟨(hd l.tail - 48).toNat, by omega⟩
    have hq4 : q < 4 := by omega
    rw [hN, hq]
    (repeat (first | (refine TW.getf rfl rfl rfl (fun _ => ?_)) | (refine TW.pl rfl rfl ?_)))
    refine TW.iald (n := 60) rfl rfl rfl (by omega) (fun _ => ?_)
    rw [ha1.1]
    (repeat (first | (refine TW.getf rfl rfl rfl (fun _ => ?_)) | (refine TW.pl rfl rfl ?_)))
    rw [hq]
    refine TW.iast (n := 4) rfl rfl rfl (by omega) (by omega) ?_
    have hf : TFr [] [11] σ (ts2 σ 11 ((q : Int).toNat) 0) := TFr.rf.ts2 (by decide)
    refine TW.vret rfl ⟨rfl, hf, ?_⟩
    refine TA.file hq4 hA ⟨?_, Nat.zero_le _, fun k hk => absurd hk (Nat.not_lt_zero _)⟩ hf (fun j _ => by rw [hf.2 6 (by decide)]) (by decide) (by decide) (fun k hk => ?_)
    · rw [ts2_at, if_pos rfl]; rfl
    · rw [ts2_at, if_neg hk]
theorem T_emptyInner {x : Int} (hs : SgnIs σ s) (hg : GS σ) (hA : TA (t, p, h, o, fi, m, n, rp) σ) (hx : Sfx s l x) (hp : pInner l = .inr (l2, od)) : TM (d + 12) tk_emptyInner [.inr 0, .inl x] σ (fun r τ => r = none ∧ (TFr fW [11] σ τ ∧ SgnIs τ s ∧ GS τ) ∧ TA (t, p, h, o, stEmpty1 fi od, m, n, rp) τ) := by
  obtain ⟨l1, w, h1, h2⟩ := pInner_out hp
  obtain ⟨g1, g2, g3, g4, g5⟩ := pAct_out h2
  refine TM.of rfl rfl ?_
  (repeat (first | (refine TW.getf rfl rfl rfl (fun _ => ?_)) | (refine TW.pl rfl rfl ?_)))
  refine TW.cv1 rfl rfl rfl (Nat.le_of_ble_eq_true rfl) (T_readWhere hs hg hx h1) ?_
  rintro _ τ1 ⟨rfl, hr1, hk⟩
  have hsx := hk.2.1
  (repeat (first | (refine TW.getf rfl rfl rfl (fun _ => ?_)) | (refine TW.pl rfl rfl ?_)))
  refine TW.cv1 rfl rfl rfl (Nat.le_of_ble_eq_true rfl) (T_emptyFile (d := d + 10) hr1.2.1 (hr1.ta hA) hsx g1 g2.2.2.2 (fun z => g5.2.2.2.2.1 (Or.inr z))) ?_
  rintro _ τ2 ⟨rfl, hf2, hA2⟩
  exact TW.vret rfl ⟨rfl, ⟨(hr1.1.mono (by decide) (by decide)).trans (hf2.mono (by decide) (by decide)), hr1.2.1.fr hf2 (by decide) (by decide), hr1.2.2.fr hf2 (by decide) (by decide)⟩, hA2⟩
end TEmp
