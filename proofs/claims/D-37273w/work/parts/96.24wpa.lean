set_option maxRecDepth 100000
/-! the twin's workParts -/
section TWpa
variable {d : Nat} {σ τ υ : TS} {s l l1 l2 lx lb : List Int} {t pu re : List SLine} {du : List (List Int)} {x : SLine} {g ov : Bool} {W W1 : WG} {B B1 : BG} {fs as : List Nat} {os : List SOrd} {n n0 : Int} {od : SOrd0} {o' : SOrd} {S : SS} {st tu k i : Nat} {ru : Nat → Nat → RG} {w : Bool × Option SAdr × Option SAdr} {h o : List (List Int)} {fi : Nat → List (List Int)} {m : Nat → Option Int} {rp run : Bool} {L : Nat}
theorem RdO.tf (h : RdO σ s τ) : TF σ τ := TF.frg h.1 (by decide) (by decide) (by decide) h.2.2
theorem TSS.rd (hT : TSS σ s t os n0 S) (h : RdO σ s τ) : TSS τ s t os n0 S := by
  obtain ⟨⟨-, -, c, e, f, g, j⟩, b, c2⟩ := hT
  exact ⟨⟨h.2.1, h.2.2, c, fun k i hv => ⟨(e k i hv).1.fr h.1 (by decide), (e k i hv).2⟩, ⟨(h.1.1 73 (by decide)).trans f.1, f.2⟩, (h.1.1 69 (by decide)).trans g, (h.1.1 71 (by decide)).trans j⟩, b.fr h.1 (by decide) (by decide), c2⟩
theorem stInn_cons {od : SOrd0} {ods : List SOrd0} (hg : sGoneS S = false) : stInn L k (od :: ods) i S = match stIn1 L k i od S with
    | .inl w => .inl w
    | .inr S2 => stInn L k ods (i + 1) S2 := by
  show (if sGoneS S = true then _ else _) = _
  rw [if_neg (by rw [hg]; decide)]
  unfold stIn1
  cases stCome L k i od S with
  | inl w => rfl
  | inr q =>
    obtain ⟨b, S1⟩ := q
    cases b <;> rfl
theorem stInn_gone {od : SOrd0} {ods : List SOrd0} (hg : sGoneS S = true) : stInn L k (od :: ods) i S = .inr S := by
  show (if sGoneS S = true then _ else _) = _
  rw [if_pos hg]
theorem SsQ.pre {R : Nat ⊕ SS} {r : Option Int} (h : TF σ τ) (hq : SsQ τ s t os n0 R r υ) : SsQ σ s t os n0 R r υ := ⟨h.trans hq.1, hq.2⟩
/-- a block of inner orders -/
theorem T_workParts {x0 : Int} {kk : Nat} (hT : TSS σ s t os n0 S) (hg : sGoneS S = false) (hk : os[k]? = some o') (hb : hd lb = 123) (hbt : lb.tail = inS (suO s k)) (hx : Sfx s lb x0) (hin : pInners kk lb.tail = .inr (lx, o'.2)) (hlx : hd lx = 125) (hn0 : n0 < 890000) : TM (d + 17) tk_workParts [.inr 0, .inl x0] σ (fun r τ => SsQ σ s t os n0 (stInn t.length k o'.2 1 S) r τ ∧ (τ.1 64) = (σ.1 64)) := by
  have hkey := pInners_key _ _ _ _ hin
  have hlb : lb ≠ [] := hd_ne hb (by decide)
  have hx1 : Sfx s lb.tail (x0 + 1) := hx.step hlb rfl
  have loop : ∀ (q j : Nat) (y : Int) (o4 : Option TV) (S : SS) (τ : TS), j + q = o'.2.length → 0 < q → Sfx s (suI lb.tail j) y → TSS τ s t os n0 S → TF σ τ → (τ.1 64) = (σ.1 64) → TW (d + 16) tc_workParts 16 [some (.inr 0), some (.inl x0), some (.inl y), some (.inl 1), o4] [] τ (fun r τ => SsQ σ s t os n0 (stInn t.length k (o'.2.drop j) (j + 1) S) r τ ∧ (τ.1 64) = (σ.1 64)) := by
    intro q
    induction q with
    | zero => intro j y o4 S τ _ h0; exact absurd h0 (Nat.lt_irrefl _)
    | succ q ih =>
      intro j y o4 S τ hj _ hy hT hf hgo
      have hjl : j < o'.2.length := by omega
      obtain ⟨lj, oj, e1, e2, e3, e4, e5, e6⟩ := hkey j hjl
      have hdr : o'.2.drop j = oj :: o'.2.drop (j + 1) := by
        rw [dropc (y := oj) hjl, List.getD_eq_getElem?_getD, e1]
        rfl
      rw [hdr]
      obtain ⟨⟨x, g, du, pu, re⟩, ⟨h, o, fi, m, n, rp⟩, st, tu, ov, ru⟩ := S
      have h70 : (τ.1 70) = b2i (!g) := hT.2.1.2.2.2.1.1
      cases g with
      | true =>
        have h70 : τ.1 70 = 0 := h70
        rw [stInn_gone rfl]
        (repeat (first | (refine TW.getf rfl rfl rfl (fun _ => ?_)) | (refine TW.pl rfl rfl ?_)))
        refine TW.br rfl rfl (by first | omega | exact b2i_R _ | exact ⟨b2i_R _, by omega⟩) (fun c1 => ?_) (fun c1 => ?_)
        · exact absurd c1 (by decide)
        (repeat (first | (refine TW.getf rfl rfl rfl (fun _ => ?_)) | (refine TW.pl rfl rfl ?_)))
        refine TW.br rfl rfl (by first | omega | exact b2i_R _ | exact ⟨b2i_R _, by omega⟩) (fun c2 => ?_) (fun c2 => ?_)
        · (repeat (first | (refine TW.getf rfl rfl rfl (fun _ => ?_)) | (refine TW.pl rfl rfl ?_)))
          exact TW.iret rfl ⟨⟨hf, rfl, hT⟩, hgo⟩
        · omega
      | false =>
        have h70 : τ.1 70 = 1 := h70
        rw [stInn_cons rfl]
        (repeat (first | (refine TW.getf rfl rfl rfl (fun _ => ?_)) | (refine TW.pl rfl rfl ?_)))
        refine TW.br rfl rfl (by first | omega | exact b2i_R _ | exact ⟨b2i_R _, by omega⟩) (fun c1 => ?_) (fun c1 => ?_)
        · exact absurd c1 (by decide)
        (repeat (first | (refine TW.getf rfl rfl rfl (fun _ => ?_)) | (refine TW.pl rfl rfl ?_)))
        refine TW.br rfl rfl (by first | omega | exact b2i_R _ | exact ⟨b2i_R _, by omega⟩) (fun c2 => ?_) (fun c2 => ?_)
        · omega
        (repeat (first | (refine TW.getf rfl rfl rfl (fun _ => ?_)) | (refine TW.pl rfl rfl ?_)))
        have hsy := T_workInner (d := d + 2) (l := suI lb.tail j) (i := j + 1) hT ⟨o', hk, hjl⟩ (by rw [hbt]; rfl) hy e2 (by
          by_cases z : j + 1 < o'.2.length
          · rw [e5 z]; decide
          · rw [e6 (by omega), hlx]; decide) hn0
        refine TW.cv1 rfl rfl rfl (Nat.le_of_ble_eq_true rfl) (hsy) ?_
        rintro r τ1 ⟨hq1, hg1⟩
        have hq1 := hq1.pre hf
        obtain ⟨hf1, hq1⟩ := hq1
        revert hq1
        cases stIn1 t.length k (j + 1) oj ((x, false, du, pu, re), (h, o, fi, m, n, rp), st, tu, ov, ru) with
        | inl w =>
          rintro ⟨rfl, hw1, hw8⟩
          (repeat (first | (refine TW.getf rfl rfl rfl (fun _ => ?_)) | (refine TW.pl rfl rfl ?_)))
          refine TW.br rfl rfl (by first | omega | exact b2i_R _ | exact ⟨b2i_R _, by omega⟩) (fun c3 => ?_) (fun c3 => ?_)
          · omega
          · (repeat (first | (refine TW.getf rfl rfl rfl (fun _ => ?_)) | (refine TW.pl rfl rfl ?_)))
            exact TW.iret rfl ⟨⟨hf1, rfl, hw1, hw8⟩, hg1.trans hgo⟩
        | inr S1 =>
          rintro ⟨rfl, hT1⟩
          (repeat (first | (refine TW.getf rfl rfl rfl (fun _ => ?_)) | (refine TW.pl rfl rfl ?_)))
          refine TW.br rfl rfl (by first | omega | exact b2i_R _ | exact ⟨b2i_R _, by omega⟩) (fun c3 => ?_) (fun c3 => ?_)
          rotate_left
          · omega
          (repeat (first | (refine TW.getf rfl rfl rfl (fun _ => ?_)) | (refine TW.pl rfl rfl ?_)))
          refine TW.cv2 rfl rfl rfl (Nat.le_of_ble_eq_true rfl) (T_endI hT1.1.1 hT1.1.2.1 hy e2) ?_
          rintro r τ2 ⟨⟨y2, rfl, hy2⟩, hrd⟩
          have hT2 := hT1.rd hrd
          have hf2 : TF σ τ2 := hf1.trans hrd.tf
          have hg2 : τ2.1 64 = σ.1 64 := (hrd.1.1 64 (by decide)).trans (hg1.trans hgo)
          have hlj : lj ≠ [] := by
            by_cases z : j + 1 < o'.2.length
            · exact hd_ne (e5 z) (by decide)
            · rw [e6 (by omega)]; exact hd_ne hlx (by decide)
          have ha := hT2.1.1.at hy2 hlj
          (repeat (first | (refine TW.getf rfl rfl rfl (fun _ => ?_)) | (refine TW.pl rfl rfl ?_)))
          refine TW.iald (n := 60) rfl rfl rfl (by omega) (fun _ => ?_)
          rw [ha.1]
          (repeat (first | (refine TW.getf rfl rfl rfl (fun _ => ?_)) | (refine TW.pl rfl rfl ?_)))
          by_cases z : j + 1 < o'.2.length
          · rw [e5 z]
            refine TW.br rfl rfl (by first | omega | exact b2i_R _ | exact ⟨b2i_R _, by omega⟩) (fun c4 => ?_) (fun c4 => ?_)
            · exact absurd rfl c4
            · (iterate 5 (first | (refine TW.getf rfl rfl rfl (fun _ => ?_)) | (refine TW.pl rfl rfl ?_)))
              refine ih (j + 1) (y2 + 1) _ S1 τ2 (by omega) (by omega) ?_ hT2 hf2 hg2
              rw [suI_succ, nxI_eq e2]
              exact hy2.step hlj rfl
          · have hlast : o'.2.drop (j + 1) = [] := List.drop_eq_nil_iff.mpr (by omega)
            rw [hlast, e6 (by omega), hlx]
            refine TW.br rfl rfl (by first | omega | exact b2i_R _ | exact ⟨b2i_R _, by omega⟩) (fun c4 => ?_) (fun c4 => ?_)
            · (repeat (first | (refine TW.getf rfl rfl rfl (fun _ => ?_)) | (refine TW.pl rfl rfl ?_)))
              refine TW.br rfl rfl (by first | omega | exact b2i_R _ | exact ⟨b2i_R _, by omega⟩) (fun c5 => ?_) (fun c5 => ?_)
              · (repeat (first | (refine TW.getf rfl rfl rfl (fun _ => ?_)) | (refine TW.pl rfl rfl ?_)))
                exact TW.iret rfl ⟨⟨hf2, rfl, hT2⟩, hg2⟩
              · exact absurd rfl c5
            · exact absurd c4 (by decide)
  have ha := hT.1.1.at hx hlb
  refine TM.of rfl rfl ?_
  (repeat (first | (refine TW.getf rfl rfl rfl (fun _ => ?_)) | (refine TW.pl rfl rfl ?_)))
  refine TW.iald (n := 60) rfl rfl rfl (by omega) (fun _ => ?_)
  rw [ha.1, hb]
  (repeat (first | (refine TW.getf rfl rfl rfl (fun _ => ?_)) | (refine TW.pl rfl rfl ?_)))
  refine TW.br rfl rfl (by first | omega | exact b2i_R _ | exact ⟨b2i_R _, by omega⟩) (fun c1 => ?_) (fun c1 => ?_)
  · (iterate 6 (first | (refine TW.getf rfl rfl rfl (fun _ => ?_)) | (refine TW.pl rfl rfl ?_)))
    have h0 : 0 < o'.2.length := List.length_pos_iff.mpr (fun z => by
      rw [z] at hin
      obtain ⟨_, _, _, h8⟩ := pInners_out hin
      rcases h8 with ⟨_, z, _⟩ | ⟨_, _, _, z, _⟩ <;> cases z)
    exact loop o'.2.length 0 (x0 + 1) none S σ (by omega) h0 hx1 hT TF.rf rfl
  · exact absurd rfl c1
end TWpa
