set_option maxRecDepth 100000
/-! the twin's workInner -/
/-- an inner order is come to and, if it holds, done -/
def stIn1 (L k i : Nat) (od : SOrd0) (S : SS) : Nat ⊕ SS := match stCome L k i od S with
  | .inl w => .inl w
  | .inr (false, S1) => .inr S1
  | .inr (true, S1) => stDo L k i od S1
section TWin2
variable {d : Nat} {σ τ υ : TS} {s l l1 l2 : List Int} {t pu re : List SLine} {du : List (List Int)} {x : SLine} {g ov : Bool} {W W1 : WG} {B B1 : BG} {fs as : List Nat} {os : List SOrd} {n n0 : Int} {od : SOrd0} {S : SS} {st tu k i : Nat} {ru : Nat → Nat → RG} {w : Bool × Option SAdr × Option SAdr} {h o : List (List Int)} {fi : Nat → List (List Int)} {m : Nat → Option Int} {rp run : Bool} {L : Nat}
theorem wk3 (hw2 : (w.2.1 = none → w.2.2 = none) ∧ (w.1 = true → w.2.1 = none)) (ho : oSnd od = w.2.2) : wKind w = 3 ↔ oSnd od ≠ none := by
  rw [ho]
  exact (wK2 hw2.2 hw2.1).2
theorem T_workInner {x0 : Int} (hT : TSS σ s t os n0 ((x, false, du, pu, re), (h, o, fi, m, n, rp), st, tu, ov, ru)) (hv : keyV os k i) (hl : keyS s k i = l) (hx : Sfx s l x0) (hp : pInner l = .inr (l2, od)) (h48 : ¬ hd l2 = 48) (hn0 : n0 < 890000) : TM (d + 14) tk_workInner [.inr 0, .inl x0] σ (fun r τ => SsQ σ s t os n0 (stIn1 t.length k i od ((x, false, du, pu, re), (h, o, fi, m, n, rp), st, tu, ov, ru)) r τ ∧ (τ.1 64) = (σ.1 64)) := by
  obtain ⟨l1, w, h1, h2⟩ := pInner_out hp
  obtain ⟨g1, g2, g3, g4, g5⟩ := pAct_out h2
  have hdu : du.length ≤ 1000 * st := hT.2.2.2.1
  have hst : st ≤ 400 := hT.1.2.2.2.2.1.2
  refine TM.of rfl rfl ?_
  (repeat (first | (refine TW.getf rfl rfl rfl (fun _ => ?_)) | (refine TW.pl rfl rfl ?_)))
  refine TW.cv1 rfl rfl rfl (Nat.le_of_ble_eq_true rfl) (T_comesS hT hx h1 g1 g2) ?_
  rintro r τ1 ⟨hf1, hg1, q1, q2, q3⟩
  have bad : ∀ (v : Nat), r = some (v : Int) → 1 ≤ v → v ≤ 8 → (∀ S', stCome t.length k i od ((x, false, du, pu, re), (h, o, fi, m, n, rp), st, tu, ov, ru) = S' → S' = .inl v) → TW (d + 13) tc_workInner 3 [some (.inr 0), some (.inl x0), none, none] ((r.map Sum.inl).toList ++ []) τ1 (fun r τ => SsQ σ s t os n0 (stIn1 t.length k i od ((x, false, du, pu, re), (h, o, fi, m, n, rp), st, tu, ov, ru)) r τ ∧ (τ.1 64) = (σ.1 64)) := by
    intro v hr hv1 hv8 hS
    subst hr
    have hS := hS _ rfl
    have hI : stIn1 t.length k i od ((x, false, du, pu, re), (h, o, fi, m, n, rp), st, tu, ov, ru) = .inl v := by
      unfold stIn1
      rw [hS]
    (repeat (first | (refine TW.getf rfl rfl rfl (fun _ => ?_)) | (refine TW.pl rfl rfl ?_)))
    refine TW.br rfl rfl (by first | omega | exact b2i_R _ | exact ⟨b2i_R _, by omega⟩) (fun c1 => ?_) (fun c1 => ?_)
    · omega
    · (repeat (first | (refine TW.getf rfl rfl rfl (fun _ => ?_)) | (refine TW.pl rfl rfl ?_)))
      refine TW.iret rfl ⟨⟨hf1, ?_⟩, hg1⟩
      rw [hI]
      exact ⟨rfl, hv1, hv8⟩
  by_cases c400 : st = 400
  · refine bad 7 (q1 c400) (by decide) (by decide) (fun S' e => ?_)
    rw [← e]
    unfold stCome
    dsimp only
    rw [if_pos c400]
  cases hb : stBar od with
  | true =>
    refine bad 8 (q2 c400 hb) (by decide) (by decide) (fun S' e => ?_)
    rw [← e]
    unfold stCome
    dsimp only
    rw [if_neg c400, if_pos hb]
  | false =>
    obtain ⟨rfl, hk, hT1⟩ := q3 c400 hb
    clear bad
    have hI : stIn1 t.length k i od ((x, false, du, pu, re), (h, o, fi, m, n, rp), st, tu, ov, ru) = (match (stHold t.length (x, false, du, pu, re) (h, o, fi, m, n, rp) tu od (ru k i)).1 with
      | false => .inr ((x, false, du, pu, re), (h, o, fi, m, n, rp), st + 1, tu, ov, rup ru k i (stHold t.length (x, false, du, pu, re) (h, o, fi, m, n, rp) tu od (ru k i)).2)
      | true => stDo t.length k i od ((x, false, du, pu, re), (h, o, fi, m, n, rp), st + 1, tu, ov, rup ru k i (stHold t.length (x, false, du, pu, re) (h, o, fi, m, n, rp) tu od (ru k i)).2)) := by
      unfold stIn1 stCome
      dsimp only
      rw [if_neg c400, if_neg (by rw [hb]; decide)]
      cases (stHold t.length (x, false, du, pu, re) (h, o, fi, m, n, rp) tu od (ru k i)).1 <;> rfl
    rw [hI]
    (repeat (first | (refine TW.getf rfl rfl rfl (fun _ => ?_)) | (refine TW.pl rfl rfl ?_)))
    refine TW.br rfl rfl (by first | omega | exact b2i_R _ | exact ⟨b2i_R _, by omega⟩) (fun c1 => ?_) (fun c1 => ?_)
    rotate_left
    · omega
    (repeat (first | (refine TW.getf rfl rfl rfl (fun _ => ?_)) | (refine TW.pl rfl rfl ?_)))
    refine TW.cv1 rfl rfl rfl (Nat.le_of_ble_eq_true rfl) (T_whereS hT1 hv hl hx hk h1 g2 hn0) ?_
    rintro _ τ2 ⟨hf2, ⟨hg2, ha2, hk2⟩, rfl, hT2⟩
    cases hH : (stHold t.length (x, false, du, pu, re) (h, o, fi, m, n, rp) tu od (ru k i)).1 with
    | false =>
      (repeat (first | (refine TW.getf rfl rfl rfl (fun _ => ?_)) | (refine TW.pl rfl rfl ?_)))
      refine TW.br rfl rfl (by first | omega | exact b2i_R _ | exact ⟨b2i_R _, by omega⟩) (fun c2 => ?_) (fun c2 => ?_)
      · (repeat (first | (refine TW.getf rfl rfl rfl (fun _ => ?_)) | (refine TW.pl rfl rfl ?_)))
        exact TW.iret rfl ⟨⟨hf1.trans hf2, rfl, hT2⟩, hg2.trans hg1⟩
      · exact absurd rfl c2
    | true =>
      (repeat (first | (refine TW.getf rfl rfl rfl (fun _ => ?_)) | (refine TW.pl rfl rfl ?_)))
      refine TW.br rfl rfl (by first | omega | exact b2i_R _ | exact ⟨b2i_R _, by omega⟩) (fun c2 => ?_) (fun c2 => ?_)
      · exact absurd c2 (by decide)
      · (repeat (first | (refine TW.getf rfl rfl rfl (fun _ => ?_)) | (refine TW.pl rfl rfl ?_)))
        have hx2 : Sfx s l1 ((τ1.1 30)) := hk.2.1
        refine TW.cv2 rfl rfl rfl (Nat.le_of_ble_eq_true rfl) (T_actS hT2 (by omega) hv (keyP_sfx (by rw [hl]; exact hx)) hx2 g1 g2.2.2.2 g5 h48 (g3 rfl) hb hn0 (by rw [hk2, hk.1]; exact wk3 (pWhere_ok h1) g2.2.2.1)) ?_
        rintro r τ3 ⟨⟨hf3, hq3⟩, hg3⟩
        have hE : SsQ σ s t os n0 (stDo t.length k i od ((x, false, du, pu, re), (h, o, fi, m, n, rp), st + 1, tu, ov, rup ru k i (stHold t.length (x, false, du, pu, re) (h, o, fi, m, n, rp) tu od (ru k i)).2)) r τ3 := ⟨(hf1.trans hf2).trans hf3, hq3⟩
        have hG : (τ3.1 64) = (σ.1 64) := hg3.trans (hg2.trans hg1)
        have hr : ∃ v, r = some v := by
          revert hq3
          cases stDo t.length k i od ((x, false, du, pu, re), (h, o, fi, m, n, rp), st + 1, tu, ov, rup ru k i (stHold t.length (x, false, du, pu, re) (h, o, fi, m, n, rp) tu od (ru k i)).2) with
          | inl w => exact fun z => ⟨_, z.1⟩
          | inr S => exact fun z => ⟨_, z.1⟩
        obtain ⟨v, rfl⟩ := hr
        (repeat (first | (refine TW.getf rfl rfl rfl (fun _ => ?_)) | (refine TW.pl rfl rfl ?_)))
        exact TW.iret rfl ⟨hE, hG⟩
end TWin2
