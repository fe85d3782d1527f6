set_option maxRecDepth 100000
/-! the twin's workEach -/
section TWea
variable {d : Nat} {σ τ υ : TS} {s l l1 l2 lx lb : List Int} {t pu re : List SLine} {du : List (List Int)} {x : SLine} {g ov : Bool} {W W1 : WG} {B B1 : BG} {fs as : List Nat} {os : List SOrd} {n n0 : Int} {od : SOrd0} {o' : SOrd} {S : SS} {st tu k i : Nat} {ru : Nat → Nat → RG} {w : Bool × Option SAdr × Option SAdr} {h o : List (List Int)} {fi : Nat → List (List Int)} {m : Nat → Option Int} {rp run : Bool} {L : Nat}
/-- inner orders, a block or one -/
theorem T_workPartsP {x0 : Int} (hT : TSS σ s t os n0 S) (hg : sGoneS S = false) (hk : os[k]? = some o') (hb : inS (suO s k) = if hd lb = 123 then lb.tail else lb) (hx : Sfx s lb x0) (hp : PartsP lb o'.2) (hn0 : n0 < 890000) : TM (d + 17) tk_workParts [.inr 0, .inl x0] σ (fun r τ => SsQ σ s t os n0 (stInn t.length k o'.2 1 S) r τ ∧ (τ.1 64) = (σ.1 64)) := by
  rcases hp with ⟨h123, kk, lx, hin, hlx⟩ | ⟨h123, hlb, od, l1, ho, hpi, h48⟩
  · exact T_workParts hT hg hk h123 (by rw [hb, if_pos h123]) hx hin hlx hn0
  · rw [if_neg h123] at hb
    have ha := hT.1.1.at hx hlb
    rw [ho]
    refine TM.of rfl rfl ?_
    (repeat (first | (refine TW.getf rfl rfl rfl (fun _ => ?_)) | (refine TW.pl rfl rfl ?_)))
    refine TW.iald (n := 60) rfl rfl rfl (by omega) (fun _ => ?_)
    rw [ha.1]
    (repeat (first | (refine TW.getf rfl rfl rfl (fun _ => ?_)) | (refine TW.pl rfl rfl ?_)))
    refine TW.br rfl rfl (by first | omega | exact b2i_R _ | exact ⟨b2i_R _, by omega⟩) (fun c1 => ?_) (fun c1 => ?_)
    · exact absurd c1 h123
    obtain ⟨⟨x, g, du, pu, re⟩, ⟨h, o, fi, m, n, rp⟩, st, tu, ov, ru⟩ := S
    have hg' : g = false := hg
    subst hg'
    (repeat (first | (refine TW.getf rfl rfl rfl (fun _ => ?_)) | (refine TW.pl rfl rfl ?_)))
    have hsy := T_workInner (d := d + 2) (l := lb) (i := 1) hT ⟨o', hk, by rw [ho]; exact Nat.le_refl _⟩ (by rw [← hb]; rfl) hx hpi h48 hn0
    refine TW.cv1 rfl rfl rfl (Nat.le_of_ble_eq_true rfl) (hsy) ?_
    rintro r τ1 ⟨⟨hf1, hq1⟩, hg1⟩
    rw [stInn_cons rfl]
    revert hq1
    cases stIn1 t.length k 1 od ((x, false, du, pu, re), (h, o, fi, m, n, rp), st, tu, ov, ru) with
    | inl w =>
      rintro ⟨rfl, hw1, hw8⟩
      exact TW.iret rfl ⟨⟨hf1, rfl, hw1, hw8⟩, hg1⟩
    | inr S1 =>
      rintro ⟨rfl, hT1⟩
      exact TW.iret rfl ⟨⟨hf1, rfl, hT1⟩, hg1⟩
/-- what each, Each and a block do with a work -/
def stEac (L k : Nat) (o : SOrd) (S : SS) : Nat ⊕ SS := if oAct o.1 = 123 ∨ (mFind (oPat o.1) S.1.1.2 0).isSome = decide (oAct o.1 = 103) then stInn L k o.2 1 S else .inr S
theorem T_workEach {x0 : Int} (hT : TSS σ s t os n0 S) (hg : sGoneS S = false) (hk : os[k]? = some o') (hwh : pWhere (suO s k) = .inr (l, w)) (hx : Sfx s l x0) (hl0 : l ≠ []) (hp : GrpP l o') (hn0 : n0 < 890000) : TM (d + 18) tk_workEach [.inr 0, .inl x0] σ (fun r τ => SsQ σ s t os n0 (stEac t.length k o' S) r τ ∧ (τ.1 64) = (σ.1 64)) := by
  have ha := hT.1.1.at hx hl0
  have hs := hT.1.1
  unfold stEac
  have ret : ∀ (r : Option Int) (τ τ1 : TS) (R : Nat ⊕ SS) (i : Nat) (o2 o3 : Option TV), tc_workEach[i]? = some (32, 0, 0) → SsQ σ s t os n0 R r τ1 → (τ1.1 64) = (σ.1 64) → TW (d + 17) tc_workEach i [some (.inr 0), some (.inl x0), o2, o3] ((r.map Sum.inl).toList ++ []) τ1 (fun r τ => SsQ σ s t os n0 R r τ ∧ (τ.1 64) = (σ.1 64)) := by
    intro r τ τ1 R i o2 o3 hC hq hgo
    obtain ⟨hf, hq⟩ := hq
    revert hq
    cases R with
    | inl w =>
      rintro ⟨rfl, hw1, hw8⟩
      exact TW.iret hC ⟨⟨hf, rfl, hw1, hw8⟩, hgo⟩
    | inr S1 =>
      rintro ⟨rfl, hT1⟩
      exact TW.iret hC ⟨⟨hf, rfl, hT1⟩, hgo⟩
  refine TM.of rfl rfl ?_
  (repeat (first | (refine TW.getf rfl rfl rfl (fun _ => ?_)) | (refine TW.pl rfl rfl ?_)))
  refine TW.iald (n := 60) rfl rfl rfl (by omega) (fun _ => ?_)
  rw [ha.1]
  (repeat (first | (refine TW.getf rfl rfl rfl (fun _ => ?_)) | (refine TW.pl rfl rfl ?_)))
  refine TW.br rfl rfl (by first | omega | exact b2i_R _ | exact ⟨b2i_R _, by omega⟩) (fun c1 => ?_) (fun c1 => ?_)
  rotate_left
  · have h123 : hd l = 123 := c1
    rcases hp with ⟨-, hact, hpp⟩ | ⟨z, _⟩
    rotate_left
    · omega
    rw [if_pos (Or.inl hact)]
    (repeat (first | (refine TW.getf rfl rfl rfl (fun _ => ?_)) | (refine TW.pl rfl rfl ?_)))
    have hin : inS (suO s k) = if hd l = 123 then l.tail else l := by
      unfold inS
      rw [hwh]
      dsimp only
      rw [if_pos h123, if_pos h123]
    refine TW.cv1 rfl rfl rfl (Nat.le_of_ble_eq_true rfl) (T_workPartsP hT hg hk hin hx hpp hn0) ?_
    rintro r τ1 ⟨hq1, hg1⟩
    exact ret r σ τ1 _ _ _ _ rfl hq1 hg1
  · have h123 : ¬ hd l = 123 := c1
    rcases hp with ⟨z, _⟩ | ⟨hgG, hact, h47, l2, g2, hpat, h47', hpp⟩
    · exact absurd z h123
    have hx1 := hx.step (y := x0 + 1) hl0 rfl
    have hx2 : Sfx s l.tail.tail (x0 + 2) := hx1.step (hd_ne h47 (by decide)) (by omega)
    have hok := pPat_ok hpat
    obtain ⟨⟨x, g, du, pu, re⟩, ⟨h, o, fi, m, n, rp⟩, st, tu, ov, ru⟩ := S
    have hg' : g = false := hg
    subst hg'
    have hrw : RowIs σ 429 x.2 := (hT.2.1.2.2.2.1.2 rfl).1
    (repeat (first | (refine TW.getf rfl rfl rfl (fun _ => ?_)) | (refine TW.pl rfl rfl ?_)))
    refine TW.cv2 rfl rfl rfl (Nat.le_of_ble_eq_true rfl) (T_compile hs hx2 (Or.inl rfl) hpat h47') ?_
    rintro _ τ1 ⟨rfl, hf1, hcm, hbp⟩
    (repeat (first | (refine TW.getf rfl rfl rfl (fun _ => ?_)) | (refine TW.pl rfl rfl ?_)))
    refine TW.cv2 rfl rfl rfl (Nat.le_of_ble_eq_true rfl) (T_finds (row := 429) (place := 0) (hs.fr hf1 (by decide) (by decide)) hcm hok.1 (hrw.fr (hf1.2 6 (by decide))) (by decide) (by omega)) ?_
    rintro r τ2 ⟨hf2, hq⟩
    have hr : r = some (b2i (mFind (oPat o'.1) x.2 0).isSome) := by
      revert hq
      cases mFind (oPat o'.1) x.2 0 with
      | none => intro hq; exact hq
      | some w => intro hq; exact hq.1
    subst hr
    have hf3 : TFr [33, 34, 35, 36, 37, 40, 41] [31, 32, 38, 39] σ τ2 := (hf1.mono (by decide) (by decide)).trans (hf2.mono (by decide) (by decide))
    have hT2 : TSS τ2 s t os n0 ((x, false, du, pu, re), (h, o, fi, m, n, rp), st, tu, ov, ru) := by
      obtain ⟨hC, hB, hR⟩ := hT
      exact ⟨hC.fr hf3 (by decide) (by decide), hB.fr hf3 (by decide) (by decide), hR⟩
    have hF2 : TF σ τ2 := TF.fr hf3 (by decide) (by decide) (by decide)
    have hbp2 : Sfx s l2.tail ((τ1.1 37) + 1) := hbp.step (hd_ne h47' (by decide)) rfl
    have hin : inS (suO s k) = if hd l2.tail = 123 then l2.tail.tail else l2.tail := by
      unfold inS
      rw [hwh]
      dsimp only
      rw [if_neg h123, hpat]
    have main : ∀ (b : Bool), b = decide (hd l = 103) → TW (d + 17) tc_workEach 33 [some (.inr 0), some (.inl x0), some (.inl (hd l)), some (.inl ((τ1.1 37) + 1))] [.inl (b2i b), .inl (b2i (mFind (oPat o'.1) x.2 0).isSome)] τ2 (fun r τ => SsQ σ s t os n0 (if oAct o'.1 = 123 ∨ (mFind (oPat o'.1) x.2 0).isSome = decide (oAct o'.1 = 103) then stInn t.length k o'.2 1 ((x, false, du, pu, re), (h, o, fi, m, n, rp), st, tu, ov, ru) else .inr ((x, false, du, pu, re), (h, o, fi, m, n, rp), st, tu, ov, ru)) r τ ∧ (τ.1 64) = (σ.1 64)) := by
      intro b hb
      rw [hact, ← hb]
      have hbR := b2i_R b
      have hmR := b2i_R (mFind (oPat o'.1) x.2 0).isSome
      refine TW.br rfl rfl (by first | omega | exact b2i_R _ | exact ⟨b2i_R _, by omega⟩) (fun c2 => ?_) (fun c2 => ?_)
      · rw [if_neg (by
          rintro (z | z)
          · exact h123 z
          · exact c2 (by rw [z]))]
        (repeat (first | (refine TW.getf rfl rfl rfl (fun _ => ?_)) | (refine TW.pl rfl rfl ?_)))
        exact TW.iret rfl ⟨⟨hF2, rfl, hT2⟩, hf3.1 64 (by decide)⟩
      · have e : (mFind (oPat o'.1) x.2 0).isSome = b := by
          revert c2
          cases (mFind (oPat o'.1) x.2 0).isSome <;> cases b <;> simp [b2i]
        rw [if_pos (Or.inr e)]
        (repeat (first | (refine TW.getf rfl rfl rfl (fun _ => ?_)) | (refine TW.pl rfl rfl ?_)))
        refine TW.cv1 rfl rfl rfl (Nat.le_of_ble_eq_true rfl) (T_workPartsP hT2 rfl hk hin hbp2 hpp hn0) ?_
        rintro r τ3 ⟨hq3, hg3⟩
        (repeat (first | (refine TW.getf rfl rfl rfl (fun _ => ?_)) | (refine TW.pl rfl rfl ?_)))
        exact ret r σ τ3 _ _ _ _ rfl (hq3.pre hF2) (hg3.trans (hf3.1 64 (by decide)))
    (repeat (first | (refine TW.getf rfl rfl rfl (fun _ => ?_)) | (refine TW.pl rfl rfl ?_)))
    refine TW.br rfl rfl (by first | omega | exact b2i_R _ | exact ⟨b2i_R _, by omega⟩) (fun c3 => ?_) (fun c3 => ?_)
    · (iterate 1 (first | (refine TW.getf rfl rfl rfl (fun _ => ?_)) | (refine TW.pl rfl rfl ?_)))
      exact main false (decide_eq_false c3).symm
    · (iterate 2 (first | (refine TW.getf rfl rfl rfl (fun _ => ?_)) | (refine TW.pl rfl rfl ?_)))
      exact main true (decide_eq_true c3).symm
end TWea
