set_option maxRecDepth 100000
/-! the twin's workSteer -/
/-- a stream: a line is at work, or all is over -/
def TSX (σ : TS) (s : List Int) (t : List SLine) (os : List SOrd) (n0 : Int) (S : SS) : Prop := if sOverS S = true then TSP σ s t os n0 S else TSS σ s t os n0 S
def SoQ (σ : TS) (s : List Int) (t : List SLine) (os : List SOrd) (n0 : Int) (R : Nat ⊕ (Nat × SS)) (r : Option Int) (τ : TS) : Prop := TF σ τ ∧ match R with
  | .inl w => r = some (w : Int) ∧ 1 ≤ w ∧ w ≤ 8
  | .inr (j, S1) => r = some 0 ∧ Place s os j ((τ.1 64)) ∧ TSX τ s t os n0 S1
/-- b, T, q, N -/
def stSte (os : List SOrd) (k : Nat) (o : SOrd) (S1 : SS) : Nat ⊕ (Nat × SS) :=
  if oAct o.1 = 98 then (match sJump os o.1 with | .inl w => .inl w | .inr j => .inr (j, S1))
  else if oAct o.1 = 84 then (if sRpS S1 = true then (match sJump os o.1 with | .inl w => .inl w | .inr j => .inr (j, setRp S1 false)) else .inr (k + 1, setRp S1 false))
  else if oAct o.1 = 113 then (match stPutS S1 with | .inl w => .inl w | .inr S2 => match stRest (stOver S2) with | .inl w => .inl w | .inr S3 => .inr (k + 1, S3))
  else (match stPutS S1 with | .inl w => .inl w | .inr S2 => .inr (k + 1, if S2.1.2.2.2.2 = [] then stOver S2 else stTake S2))
section TSte
variable {d : Nat} {σ τ υ : TS} {s l l1 l2 lx lb : List Int} {t pu re : List SLine} {du : List (List Int)} {x y : SLine} {g ov : Bool} {W W1 : WG} {B B1 : BG} {fs as : List Nat} {os : List SOrd} {n n0 : Int} {od : SOrd0} {o' : SOrd} {S S1 : SS} {st tu k i : Nat} {ru : Nat → Nat → RG} {w : Bool × Option SAdr × Option SAdr} {h o : List (List Int)} {fi : Nat → List (List Int)} {m : Nat → Option Int} {rp run : Bool} {L : Nat}
theorem TSX.of (h : TSS σ s t os n0 S) (ho : sOverS S = false) : TSX σ s t os n0 S := by
  unfold TSX
  rw [if_neg (by rw [ho]; decide)]
  exact h
theorem TSX.p (h : TSP σ s t os n0 S) (ho : sOverS S = true) : TSX σ s t os n0 S := by
  unfold TSX
  rw [if_pos ho]
  exact h
theorem TWP.fr (hB : TWP σ t W B) (hf : TFr fs as σ τ) (h1 : ∀ k ∈ [12, 13, 14, 15, 16, 17, 44, 65, 66], k ∉ fs) (h2 : ∀ k ∈ [6, 7, 8, 10, 11], k ∉ as) : TWP τ t W B := by
  obtain ⟨a, b, c, e, f, g⟩ := hB
  have hs := RSame.no hf (h2 6 (by decide))
  exact ⟨a.same hf hs (fun k hk => h1 k (by simp at hk ⊢; omega)) (h2 7 (by decide)) (fun k z => z.elim), b.same hf hs (h1 13 (by decide)) (h2 8 (by decide)) (fun k z => z.elim), c.same hf hs (fun k hk => h1 k (by simp at hk ⊢; omega)) (h2 11 (by decide)) (fun k z => z.elim), e.same (hf.2 10 (h2 10 (by decide))), (hf.1 17 (h1 17 (by decide))).trans f, (hf.1 44 (h1 44 (by decide))).trans g⟩
theorem TSP.ovr (hT : TSP σ s t os n0 S) (hf : TFr [71] [] σ τ) (hv : (τ.1 71) = 1) : TSP τ s t os n0 (stOver S) := by
  obtain ⟨W, B, st, tu, ov, ru⟩ := S
  obtain ⟨⟨a, b, c, e, f, g, j⟩, hB, hR⟩ := hT
  exact ⟨⟨a.fr hf (by decide) (by decide), b.fr hf (by decide) (by decide), c, fun k i hv => ⟨(e k i hv).1.fr hf (by decide), (e k i hv).2⟩, ⟨(hf.1 73 (by decide)).trans f.1, f.2⟩, (hf.1 69 (by decide)).trans g, hv⟩, hB.fr hf (by decide) (by decide), hR⟩
theorem TSS.setr {b : Bool} (hT : TSS σ s t os n0 S) (hf : TFr [44] [] σ τ) (hv : (τ.1 44) = b2i b) : TSS τ s t os n0 (setRp S b) := by
  obtain ⟨W, ⟨h, o, fi, m, n, rp⟩, st, tu, ov, ru⟩ := S
  obtain ⟨hC, hB, hw, hR⟩ := hT
  obtain ⟨b1, b2, b3, b4, b5, b6, b7, b8⟩ := hB
  have hs := RSame.no hf (by decide)
  exact ⟨hC.fr hf (by decide) (by decide), ⟨b1.same hf hs (by decide) (by decide) (fun k z => z.elim), b2.same hf hs (by decide) (by decide) (fun k z => z.elim), b3.same hf hs (by decide) (fun k z => z.elim), b4.same hf hs (by decide) (fun z => z.elim), b5.same hf hs (by decide) (by decide) (fun k z => z.elim), b6.same (hf.2 10 (by decide)), (hf.1 17 (by decide)).trans b7, hv⟩, hw, hR⟩
theorem T_jumpS {x1 : Int} (hT : TSS σ s t os n0 S) (ho : sOverS S = false) (h0 : 0 < os.length) (hx : Sfx s l x1) (hl0 : l ≠ []) (hlab : (isLab (hd l.tail) = true ∧ oNum od = hd l.tail - 65) ∨ (isLab (hd l.tail) = false ∧ oNum od = -1)) : TM (d + 16) tk_jump [.inr 0, .inl x1] σ (SoQ σ s t os n0 (match sJump os od with | .inl w => .inl w | .inr j => .inr (j, S))) := by
  obtain ⟨⟨a, b, c, e, f, g, j⟩, hB, hR⟩ := hT
  refine (T_jump a b c h0 hx hl0 hlab).mono (Nat.le_refl _) ?_
  rintro r τ ⟨⟨hf, hs1, hg1⟩, hq⟩
  refine ⟨TF.frg hf (by decide) (by decide) (by decide) hg1, ?_⟩
  revert hq
  cases sJump os od with
  | inl w => exact fun hq => ⟨hq.1, hq.2.1, by have := hq.2.2; omega⟩
  | inr j2 => exact fun hq => ⟨hq.1, hq.2, TSX.of ⟨⟨hs1, hg1, c, fun k i hv => ⟨(e k i hv).1.fr hf (by decide), (e k i hv).2⟩, ⟨(hf.1 73 (by decide)).trans f.1, f.2⟩, (hf.1 69 (by decide)).trans g, (hf.1 71 (by decide)).trans j⟩, hB.fr hf (by decide) (by decide), hR⟩ ho⟩
theorem stPutS_ov (hs : stPutS S = .inr S1) : sOverS S1 = sOverS S := by
  obtain ⟨W, B, st, tu, ov, ru⟩ := S
  unfold stPutS at hs
  dsimp only at hs
  split at hs
  · cases hs
  · cases hs; rfl
theorem stRest_ov (hs : stRest S = .inr S1) : sOverS S1 = sOverS S := by
  obtain ⟨⟨x, g, du, pu, re⟩, B, st, tu, ov, ru⟩ := S
  unfold stRest at hs
  dsimp only at hs
  split at hs
  · cases hs
  · cases hs; rfl
theorem T_workSteer {x1 : Int} (hT : TSS σ s t os n0 S) (ho : sOverS S = false) (h0 : 0 < os.length) (hx : Sfx s l x1) (hl0 : l ≠ []) (hact : oAct o'.1 = hd l) (hc : hd l = 98 ∨ hd l = 84 ∨ hd l = 113 ∨ hd l = 78) (hlab : hd l = 98 ∨ hd l = 84 → (isLab (hd l.tail) = true ∧ oNum o'.1 = hd l.tail - 65) ∨ (isLab (hd l.tail) = false ∧ oNum o'.1 = -1)) (hgo : Place s os (k + 1) ((σ.1 64))) (hn0 : n0 < 890000) : TM (d + 17) tk_workSteer [.inr 0, .inl x1] σ (SoQ σ s t os n0 (stSte os k o' S)) := by
  have ha := hT.1.1.at hx hl0
  unfold stSte
  rw [hact]
  have ret : ∀ (r : Option Int) (τ : TS) (R : Nat ⊕ (Nat × SS)) (i : Nat) (ls : TL), tc_workSteer[i]? = some (32, 0, 0) → SoQ σ s t os n0 R r τ → TW (d + 16) tc_workSteer i ls ((r.map Sum.inl).toList ++ []) τ (SoQ σ s t os n0 R) := by
    intro r τ R i ls hC hq
    obtain ⟨hf, hq⟩ := hq
    revert hq
    cases R with
    | inl w =>
      rintro ⟨rfl, hw1, hw8⟩
      exact TW.iret hC ⟨hf, rfl, hw1, hw8⟩
    | inr q =>
      rintro ⟨rfl, hT1⟩
      exact TW.iret hC ⟨hf, rfl, hT1⟩
  refine TM.of rfl rfl ?_
  (repeat (first | (refine TW.getf rfl rfl rfl (fun _ => ?_)) | (refine TW.pl rfl rfl ?_)))
  refine TW.iald (n := 60) rfl rfl rfl (by omega) (fun _ => ?_)
  rw [ha.1]
  (repeat (first | (refine TW.getf rfl rfl rfl (fun _ => ?_)) | (refine TW.pl rfl rfl ?_)))
  by_cases n98 : hd l = 98
  · rw [if_pos n98]
    refine TW.br rfl rfl (by first | omega | exact b2i_R _ | exact ⟨b2i_R _, by omega⟩) (fun c1 => ?_) (fun c1 => ?_)
    · exact absurd n98 c1
    (repeat (first | (refine TW.getf rfl rfl rfl (fun _ => ?_)) | (refine TW.pl rfl rfl ?_)))
    refine TW.cv1 rfl rfl rfl (Nat.le_of_ble_eq_true rfl) (T_jumpS hT ho h0 hx hl0 (hlab (Or.inl n98))) ?_
    rintro r τ hq
    exact ret r τ _ _ _ rfl hq
  rw [if_neg n98]
  refine TW.br rfl rfl (by first | omega | exact b2i_R _ | exact ⟨b2i_R _, by omega⟩) (fun c1 => ?_) (fun c1 => ?_)
  rotate_left
  · exact absurd c1 n98
  (repeat (first | (refine TW.getf rfl rfl rfl (fun _ => ?_)) | (refine TW.pl rfl rfl ?_)))
  by_cases n84 : hd l = 84
  · rw [if_pos n84]
    refine TW.br rfl rfl (by first | omega | exact b2i_R _ | exact ⟨b2i_R _, by omega⟩) (fun c2 => ?_) (fun c2 => ?_)
    · exact absurd n84 c2
    have h44 : (σ.1 44) = b2i (sRpS S) := hT.2.1.2.2.2.2.2.2.2
    (repeat (first | (refine TW.getf rfl rfl rfl (fun _ => ?_)) | (refine TW.pl rfl rfl ?_)))
    refine TW.putb rfl rfl (Or.inl rfl) (fun τ1 v1 f1 => ?_)
    have hT1 : TSS τ1 s t os n0 (setRp S false) := hT.setr f1 v1
    have hF1 : TF σ τ1 := TF.fr f1 (by decide) (by decide) (by decide)
    have ho1 : sOverS (setRp S false) = false := by
      obtain ⟨W, ⟨h, o, fi, m, n, rp⟩, st, tu, ov, ru⟩ := S
      exact ho
    rw [h44]
    (repeat (first | (refine TW.getf rfl rfl rfl (fun _ => ?_)) | (refine TW.pl rfl rfl ?_)))
    refine TW.br rfl rfl (by first | omega | exact b2i_R _ | exact ⟨b2i_R _, by omega⟩) (fun c3 => ?_) (fun c3 => ?_)
    · have e : sRpS S = false := b2i_0 c3
      rw [e, if_neg (by decide)]
      (repeat (first | (refine TW.getf rfl rfl rfl (fun _ => ?_)) | (refine TW.pl rfl rfl ?_)))
      refine TW.iret rfl ⟨hF1, rfl, ?_, TSX.of hT1 ho1⟩
      rw [f1.1 64 (by decide)]
      exact hgo
    · have e : sRpS S = true := by
        cases hr : sRpS S with
        | true => rfl
        | false => rw [hr] at c3; exact absurd rfl c3
      rw [e, if_pos rfl]
      (repeat (first | (refine TW.getf rfl rfl rfl (fun _ => ?_)) | (refine TW.pl rfl rfl ?_)))
      refine TW.cv1 rfl rfl rfl (Nat.le_of_ble_eq_true rfl) (T_jumpS hT1 ho1 h0 hx hl0 (hlab (Or.inr n84))) ?_
      rintro r τ ⟨hf, hq⟩
      (repeat (first | (refine TW.getf rfl rfl rfl (fun _ => ?_)) | (refine TW.pl rfl rfl ?_)))
      have hq2 : SoQ σ s t os n0 (match sJump os o'.1 with | .inl w => .inl w | .inr j => .inr (j, setRp S false)) r τ := ⟨hF1.trans hf, hq⟩
      generalize (match sJump os o'.1 with | .inl w => (.inl w : Nat ⊕ (Nat × SS)) | .inr j => .inr (j, setRp S false)) = R at hq2 ⊢
      obtain ⟨hf, hq⟩ := hq2
      revert hq
      cases R with
      | inl w =>
        rintro ⟨rfl, hw1, hw8⟩
        (repeat (first | (refine TW.getf rfl rfl rfl (fun _ => ?_)) | (refine TW.pl rfl rfl ?_)))
        exact TW.iret rfl ⟨hf, rfl, hw1, hw8⟩
      | inr q =>
        rintro ⟨rfl, hT1⟩
        (repeat (first | (refine TW.getf rfl rfl rfl (fun _ => ?_)) | (refine TW.pl rfl rfl ?_)))
        exact TW.iret rfl ⟨hf, rfl, hT1⟩
  rw [if_neg n84]
  refine TW.br rfl rfl (by first | omega | exact b2i_R _ | exact ⟨b2i_R _, by omega⟩) (fun c2 => ?_) (fun c2 => ?_)
  rotate_left
  · exact absurd c2 n84
  (repeat (first | (refine TW.getf rfl rfl rfl (fun _ => ?_)) | (refine TW.pl rfl rfl ?_)))
  refine TW.cv0 rfl rfl rfl (Nat.le_of_ble_eq_true rfl) (T_putS hT hn0) ?_
  rintro r τ1 ⟨⟨hF1, hg1⟩, hq⟩
  have fail : ∀ (w : Nat) (R : Nat ⊕ (Nat × SS)), r = some (w : Int) ∧ 1 ≤ w ∧ w ≤ 8 → R = .inl w → TW (d + 16) tc_workSteer 31 [some (.inr 0), some (.inl x1), some (.inl (hd l)), none] ((r.map Sum.inl).toList ++ []) τ1 (SoQ σ s t os n0 R) := by
    rintro w R ⟨rfl, hw1, hw8⟩ rfl
    (repeat (first | (refine TW.getf rfl rfl rfl (fun _ => ?_)) | (refine TW.pl rfl rfl ?_)))
    refine TW.br rfl rfl (by first | omega | exact b2i_R _ | exact ⟨b2i_R _, by omega⟩) (fun c3 => ?_) (fun c3 => ?_)
    · omega
    · (repeat (first | (refine TW.getf rfl rfl rfl (fun _ => ?_)) | (refine TW.pl rfl rfl ?_)))
      exact TW.iret rfl ⟨hF1, rfl, hw1, hw8⟩
  by_cases n113 : hd l = 113
  · rw [if_pos n113]
    revert hq
    cases hA : stPutS S with
    | inl w => exact fun hq => fail w _ hq rfl
    | inr S2 =>
      rintro ⟨rfl, hT1⟩
      (repeat (first | (refine TW.getf rfl rfl rfl (fun _ => ?_)) | (refine TW.pl rfl rfl ?_)))
      refine TW.br rfl rfl (by first | omega | exact b2i_R _ | exact ⟨b2i_R _, by omega⟩) (fun c3 => ?_) (fun c3 => ?_)
      rotate_left
      · omega
      (repeat (first | (refine TW.getf rfl rfl rfl (fun _ => ?_)) | (refine TW.pl rfl rfl ?_)))
      refine TW.br rfl rfl (by first | omega | exact b2i_R _ | exact ⟨b2i_R _, by omega⟩) (fun c4 => ?_) (fun c4 => ?_)
      · exact absurd n113 c4
      (repeat (first | (refine TW.getf rfl rfl rfl (fun _ => ?_)) | (refine TW.pl rfl rfl ?_)))
      refine TW.putb rfl rfl (Or.inr rfl) (fun τ2 v2 f2 => ?_)
      have hT2 := hT1.ovr f2 v2
      have hF2 : TF σ τ2 := hF1.trans (TF.fr f2 (by decide) (by decide) (by decide))
      have hg2 : τ2.1 64 = σ.1 64 := (f2.1 64 (by decide)).trans hg1
      (repeat (first | (refine TW.getf rfl rfl rfl (fun _ => ?_)) | (refine TW.pl rfl rfl ?_)))
      refine TW.cv0 rfl rfl rfl (Nat.le_of_ble_eq_true rfl) (T_restS hT2 hn0) ?_
      rintro r τ3 ⟨⟨hF3, hg3⟩, hq⟩
      refine ret r τ3 _ _ _ rfl ⟨hF2.trans hF3, ?_⟩
      dsimp only
      revert hq
      cases hR : stRest (stOver S2) with
      | inl w => exact fun hq => hq
      | inr S3 =>
        rintro ⟨h1, h2⟩
        refine ⟨h1, ?_, TSX.p h2 ?_⟩
        · rw [hg3, hg2]
          exact hgo
        · rw [stRest_ov hR]
          obtain ⟨W, B, st, tu, ov, ru⟩ := S2
          rfl
  · rw [if_neg n113]
    revert hq
    cases hA : stPutS S with
    | inl w => exact fun hq => fail w _ hq rfl
    | inr S2 =>
      rintro ⟨rfl, hT1⟩
      have hov2 : sOverS S2 = false := (stPutS_ov hA).trans ho
      obtain ⟨⟨x, g, du, pu, re⟩, ⟨h, o, fi, m, n, rp⟩, st, tu, ov, ru⟩ := S2
      have h65 : τ1.1 65 = t.length := hT1.2.1.1.2.1
      have h66 : τ1.1 66 = ((t.length - re.length : Nat) : Int) := hT1.2.1.1.2.2.1
      have hrl : re.length ≤ t.length := hT1.2.1.1.2.2.2.2.1
      (repeat (first | (refine TW.getf rfl rfl rfl (fun _ => ?_)) | (refine TW.pl rfl rfl ?_)))
      refine TW.br rfl rfl (by first | omega | exact b2i_R _ | exact ⟨b2i_R _, by omega⟩) (fun c3 => ?_) (fun c3 => ?_)
      rotate_left
      · omega
      (repeat (first | (refine TW.getf rfl rfl rfl (fun _ => ?_)) | (refine TW.pl rfl rfl ?_)))
      refine TW.br rfl rfl (by first | omega | exact b2i_R _ | exact ⟨b2i_R _, by omega⟩) (fun c4 => ?_) (fun c4 => ?_)
      rotate_left
      · exact absurd c4 n113
      (repeat (first | (refine TW.getf rfl rfl rfl (fun _ => ?_)) | (refine TW.pl rfl rfl ?_)))
      cases re with
      | nil =>
        have h66 : τ1.1 66 = t.length := by simp at h66; exact h66
        refine TW.br rfl rfl (by first | omega | exact b2i_R _ | exact ⟨b2i_R _, by omega⟩) (fun c5 => ?_) (fun c5 => ?_)
        · omega
        (repeat (first | (refine TW.getf rfl rfl rfl (fun _ => ?_)) | (refine TW.pl rfl rfl ?_)))
        refine TW.putb rfl rfl (Or.inr rfl) (fun τ2 v2 f2 => ?_)
        have hT2 := hT1.ovr f2 v2
        have hF2 : TF σ τ2 := hF1.trans (TF.fr f2 (by decide) (by decide) (by decide))
        have hg2 : τ2.1 64 = σ.1 64 := (f2.1 64 (by decide)).trans hg1
        (repeat (first | (refine TW.getf rfl rfl rfl (fun _ => ?_)) | (refine TW.pl rfl rfl ?_)))
        refine TW.iret rfl ⟨hF2, rfl, by rw [hg2]; exact hgo, TSX.p hT2 rfl⟩
      | cons y re =>
        rw [List.length_cons] at h66 hrl
        refine TW.br rfl rfl (by first | omega | exact b2i_R _ | exact ⟨b2i_R _, by omega⟩) (fun c5 => ?_) (fun c5 => ?_)
        rotate_left
        · omega
        (repeat (first | (refine TW.getf rfl rfl rfl (fun _ => ?_)) | (refine TW.pl rfl rfl ?_)))
        refine TW.cv0 rfl rfl rfl (Nat.le_of_ble_eq_true rfl) (T_takeS hT1 hn0) ?_
        rintro _ τ2 ⟨rfl, ⟨hF2, hg2⟩, hT2⟩
        (repeat (first | (refine TW.getf rfl rfl rfl (fun _ => ?_)) | (refine TW.pl rfl rfl ?_)))
        refine TW.iret rfl ⟨hF1.trans hF2, rfl, by rw [hg2, hg1]; exact hgo, TSX.of hT2 hov2⟩
end TSte
