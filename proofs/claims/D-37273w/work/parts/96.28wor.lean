set_option maxRecDepth 100000
/-! the twin's workOrder -/
section TWor
variable {d : Nat} {σ τ υ : TS} {s l l1 l2 lx lb : List Int} {t pu re : List SLine} {du : List (List Int)} {x y : SLine} {g ov : Bool} {W W1 : WG} {B B1 : BG} {fs as : List Nat} {os : List SOrd} {n n0 : Int} {od : SOrd0} {o' : SOrd} {S S1 : SS} {st tu k i : Nat} {ru : Nat → Nat → RG} {w : Bool × Option SAdr × Option SAdr} {h o : List (List Int)} {fi : Nat → List (List Int)} {m : Nat → Option Int} {rp run : Bool} {L : Nat}
theorem stDo_ov (hs : stDo L k i od S = .inr S1) : sOverS S1 = sOverS S := by
  obtain ⟨W, B, st, tu, ov, ru⟩ := S
  unfold stDo at hs
  dsimp only at hs
  split at hs
  · cases hs
  · cases hs; rfl
theorem stCome_ov {b : Bool} (hs : stCome L k i od S = .inr (b, S1)) : sOverS S1 = sOverS S := by
  obtain ⟨W, B, st, tu, ov, ru⟩ := S
  unfold stCome at hs
  dsimp only at hs
  split at hs
  · cases hs
  · split at hs
    · cases hs
    · cases hs; rfl
theorem stIn1_ov (hs : stIn1 L k i od S = .inr S1) : sOverS S1 = sOverS S := by
  unfold stIn1 at hs
  cases hc : stCome L k i od S with
  | inl w => rw [hc] at hs; cases hs
  | inr q =>
    obtain ⟨b, S2⟩ := q
    rw [hc] at hs
    cases b with
    | false => cases hs; exact stCome_ov hc
    | true => exact (stDo_ov hs).trans (stCome_ov hc)
theorem stInn_ov : ∀ (ods : List SOrd0) (i : Nat) (S S1 : SS), stInn L k ods i S = .inr S1 → sOverS S1 = sOverS S := by
  intro ods
  induction ods with
  | nil => intro i S S1 hs; cases hs; rfl
  | cons od ods ih =>
    intro i S S1 hs
    cases hg : sGoneS S with
    | true => rw [stInn_gone hg] at hs; cases hs; rfl
    | false =>
      rw [stInn_cons hg] at hs
      cases hc : stIn1 L k i od S with
      | inl w => rw [hc] at hs; cases hs
      | inr S2 =>
        rw [hc] at hs
        exact (ih _ _ _ hs).trans (stIn1_ov hc)
theorem stEac_ov (hs : stEac L k o' S = .inr S1) : sOverS S1 = sOverS S := by
  unfold stEac at hs
  split at hs
  · exact stInn_ov _ _ _ _ hs
  · cases hs; rfl
/-- a state, and the next place -/
def nxP (k : Nat) (R : Nat ⊕ SS) : Nat ⊕ (Nat × SS) := match R with
  | .inl w => .inl w
  | .inr S2 => .inr (k + 1, S2)
theorem stOne_eq : stOne L os k o' S = match stCome L k 0 o'.1 S with
    | .inl w => .inl w
    | .inr (false, S1) => .inr (k + 1, S1)
    | .inr (true, S1) => if oAct o'.1 = 58 then .inr (k + 1, S1) else if oAct o'.1 = 98 ∨ oAct o'.1 = 84 ∨ oAct o'.1 = 113 ∨ oAct o'.1 = 78 then stSte os k o' S1 else if sIsG (oAct o'.1) = true then nxP k (stEac L k o' S1) else nxP k (stDo L k 0 o'.1 S1) := by
  unfold stOne
  cases stCome L k 0 o'.1 S with
  | inl w => rfl
  | inr q =>
    obtain ⟨b, S1⟩ := q
    cases b with
    | false => rfl
    | true =>
      dsimp only
      by_cases c58 : oAct o'.1 = 58
      · rw [if_pos c58, if_pos c58]
      rw [if_neg c58, if_neg c58]
      unfold stSte
      by_cases c98 : oAct o'.1 = 98
      · rw [if_pos c98, if_pos (Or.inl c98), if_pos c98]
        rfl
      rw [if_neg c98, if_neg c98]
      by_cases c84 : oAct o'.1 = 84
      · rw [if_pos c84, if_pos (Or.inr (Or.inl c84)), if_pos c84]
        rfl
      rw [if_neg c84, if_neg c84]
      by_cases c113 : oAct o'.1 = 113
      · rw [if_pos c113, if_pos (Or.inr (Or.inr (Or.inl c113))), if_pos c113]
        rfl
      rw [if_neg c113, if_neg c113]
      by_cases c78 : oAct o'.1 = 78
      · rw [if_pos c78, if_pos (Or.inr (Or.inr (Or.inr c78)))]
        rfl
      rw [if_neg c78, if_neg (show ¬ (oAct o'.1 = 98 ∨ oAct o'.1 = 84 ∨ oAct o'.1 = 113 ∨ oAct o'.1 = 78) from by omega)]
      by_cases cG : sIsG (oAct o'.1) = true
      · rw [if_pos cG, if_pos cG]
        unfold stEac
        split
        · rfl
        · rfl
      · rw [if_neg cG, if_neg cG]
        rfl
theorem SsQ.so {R : Nat ⊕ SS} {r : Option Int} (hq : SsQ σ s t os n0 R r τ) (hgo : Place s os (k + 1) ((τ.1 64))) (hR : ∀ S2, R = .inr S2 → sOverS S2 = false) : SoQ σ s t os n0 (nxP k R) r τ := by
  obtain ⟨hf, hq⟩ := hq
  refine ⟨hf, ?_⟩
  cases R with
  | inl w => exact hq
  | inr S2 => exact ⟨hq.1, hgo, TSX.of hq.2 (hR _ rfl)⟩
theorem T_workOrder {x0 : Int} (hT : TSS σ s t os n0 S) (ho : sOverS S = false) (hg : sGoneS S = false) (hPk : Place s os k x0) (hk : os[k]? = some o') (hn0 : n0 < 890000) : TM (d + 20) tk_workOrder [.inr 0, .inl x0] σ (SoQ σ s t os n0 (stOne t.length os k o' S)) := by
  have hkl : k < os.length := (List.getElem?_eq_some_iff.mp hk).1
  obtain ⟨o2, l, l2, hsu, hoi, hx, hpo, h48, hnx⟩ := hPk.get2 hkl
  have hoo : o2 = o' := by rw [hk] at hoi; exact (Option.some.inj hoi).symm
  subst hoo
  obtain ⟨l1, w, hwh, hw0, hl1, hcase⟩ := pOrder_out hpo h48
  have hw2 := pWhere_ok hwh
  have h60 := hT.1.1.2.1
  obtain ⟨⟨x, g, du, pu, re⟩, ⟨h, o, fi, m, n, rp⟩, st, tu, ov, ru⟩ := S
  have hg' : g = false := hg
  subst hg'
  have hov : ov = false := ho
  subst hov
  have hv : keyV os k 0 := ⟨_, hk, Nat.zero_le _⟩
  have hdu : du.length ≤ 1000 * st := hT.2.2.2.1
  have hst : st ≤ 400 := hT.1.2.2.2.2.1.2
  have hoa := hw0.2.2.2
  refine TM.of rfl rfl ?_
  (repeat (first | (refine TW.getf rfl rfl rfl (fun _ => ?_)) | (refine TW.pl rfl rfl ?_)))
  refine TW.cv2 rfl rfl rfl (Nat.le_of_ble_eq_true rfl) (T_endO hT.1.1 hT.1.2.1 hx hpo) ?_
  rintro _ τ1 ⟨⟨y, rfl, hy⟩, hr1⟩
  have hyl := hy.len
  have hn1 : τ1.1 22 = s.length := hr1.2.1.1
  have hT1 := hT.rd hr1
  have hF1 : TF σ τ1 := hr1.tf
  have main : ∀ v : Int, Place s os (k + 1) v → (0 ≤ v ∧ v ≤ 60) → TW (d + 19) tc_workOrder 16 [some (.inr 0), some (.inl x0), some (.inl y), none, none, none] [.inl v, .inr 0] τ1 (SoQ σ s t os n0 (stOne t.length os k o2 ((x, false, du, pu, re), (h, o, fi, m, n, rp), st, tu, false, ru))) := by
    intro v hv1 hvR
    rw [stOne_eq]
    refine TW.putg rfl rfl (by omega) (fun τ2 v2 f2 => ?_)
    have hT2 : TSS τ2 s t os n0 ((x, false, du, pu, re), (h, o, fi, m, n, rp), st, tu, false, ru) := by
      obtain ⟨hC, hB, hR⟩ := hT1
      exact ⟨hC.fr f2 (by decide) (by decide), hB.fr f2 (by decide) (by decide), hR⟩
    have hF2 : TF σ τ2 := hF1.trans (TF.fr f2 (by decide) (by decide) (by decide))
    (repeat (first | (refine TW.getf rfl rfl rfl (fun _ => ?_)) | (refine TW.pl rfl rfl ?_)))
    refine TW.cv1 rfl rfl rfl (Nat.le_of_ble_eq_true rfl) (T_comesS hT2 hx hwh hl1 hw0) ?_
    rintro r τ3 ⟨hF3', hg3, q1, q2, q3⟩
    have hF3 := hF2.trans hF3'
    have bad : ∀ (c : Nat) (R : Nat ⊕ (Nat × SS)), r = some (c : Int) → 1 ≤ c → c ≤ 8 → R = .inl c → TW (d + 19) tc_workOrder 20 [some (.inr 0), some (.inl x0), some (.inl y), none, none, none] ((r.map Sum.inl).toList ++ []) τ3 (SoQ σ s t os n0 R) := by
      intro c R hr hc1 hc8 hR
      subst hr
      subst hR
      (repeat (first | (refine TW.getf rfl rfl rfl (fun _ => ?_)) | (refine TW.pl rfl rfl ?_)))
      refine TW.br rfl rfl (by first | omega | exact b2i_R _ | exact ⟨b2i_R _, by omega⟩) (fun c1 => ?_) (fun c1 => ?_)
      · omega
      · (repeat (first | (refine TW.getf rfl rfl rfl (fun _ => ?_)) | (refine TW.pl rfl rfl ?_)))
        exact TW.iret rfl ⟨hF3, rfl, hc1, hc8⟩
    by_cases c400 : st = 400
    · refine bad 7 _ (q1 c400) (by decide) (by decide) ?_
      unfold stCome
      dsimp only
      rw [if_pos c400]
    cases hb : stBar o2.1 with
    | true =>
      refine bad 8 _ (q2 c400 hb) (by decide) (by decide) ?_
      unfold stCome
      dsimp only
      rw [if_neg c400, if_pos hb]
    | false =>
      obtain ⟨rfl, hwk, hT3⟩ := q3 c400 hb
      clear bad
      have hI : stCome t.length k 0 o2.1 ((x, false, du, pu, re), (h, o, fi, m, n, rp), st, tu, false, ru) = .inr ((stHold t.length (x, false, du, pu, re) (h, o, fi, m, n, rp) tu o2.1 (ru k 0)).1, (x, false, du, pu, re), (h, o, fi, m, n, rp), st + 1, tu, false, rup ru k 0 (stHold t.length (x, false, du, pu, re) (h, o, fi, m, n, rp) tu o2.1 (ru k 0)).2) := by
        unfold stCome
        dsimp only
        rw [if_neg c400, if_neg (by rw [hb]; decide)]
      rw [hI]
      (repeat (first | (refine TW.getf rfl rfl rfl (fun _ => ?_)) | (refine TW.pl rfl rfl ?_)))
      refine TW.br rfl rfl (by first | omega | exact b2i_R _ | exact ⟨b2i_R _, by omega⟩) (fun c1 => ?_) (fun c1 => ?_)
      rotate_left
      · omega
      (repeat (first | (refine TW.getf rfl rfl rfl (fun _ => ?_)) | (refine TW.pl rfl rfl ?_)))
      refine TW.cv1 rfl rfl rfl (Nat.le_of_ble_eq_true rfl) (T_whereS hT3 hv hsu.symm hx hwk hwh hw0 hn0) ?_
      rintro _ τ4 ⟨hF4', ⟨hg4, ha4, hk4⟩, rfl, hT4⟩
      have hF4 := hF3.trans hF4'
      have h64 : τ4.1 64 = v := by rw [hg4, hg3, v2]
      have hx4 : Sfx s l1 ((τ3.1 30)) := hwk.2.1
      have hk34 : (τ4.1 27) = 3 ↔ oSnd o2.1 ≠ none := by rw [hk4, hwk.1]; exact wk3 hw2 hw0.2.2.1
      have ha := hT4.1.1.at hx4 hl1
      generalize hHd : stHold t.length (x, false, du, pu, re) (h, o, fi, m, n, rp) tu o2.1 (ru k 0) = H at hT4 ⊢
      obtain ⟨Hb, HR⟩ := H
      cases Hb with
      | false =>
        dsimp only
        (repeat (first | (refine TW.getf rfl rfl rfl (fun _ => ?_)) | (refine TW.pl rfl rfl ?_)))
        refine TW.br rfl rfl (by first | omega | exact b2i_R _ | exact ⟨b2i_R _, by omega⟩) (fun c2 => ?_) (fun c2 => ?_)
        · exact absurd rfl c2
        · (repeat (first | (refine TW.getf rfl rfl rfl (fun _ => ?_)) | (refine TW.pl rfl rfl ?_)))
          exact TW.iret rfl ⟨hF4, rfl, by rw [h64]; exact hv1, TSX.of hT4 rfl⟩
      | true =>
        dsimp only at hT4 ⊢
        rw [hoa]
        (repeat (first | (refine TW.getf rfl rfl rfl (fun _ => ?_)) | (refine TW.pl rfl rfl ?_)))
        refine TW.br rfl rfl (by first | omega | exact b2i_R _ | exact ⟨b2i_R _, by omega⟩) (fun c2 => ?_) (fun c2 => ?_)
        rotate_left
        · exact absurd c2 (by decide)
        (repeat (first | (refine TW.getf rfl rfl rfl (fun _ => ?_)) | (refine TW.pl rfl rfl ?_)))
        refine TW.iald (n := 60) rfl rfl rfl (by omega) (fun _ => ?_)
        rw [ha.1]
        (repeat (first | (refine TW.getf rfl rfl rfl (fun _ => ?_)) | (refine TW.pl rfl rfl ?_)))
        refine TW.br rfl rfl (by first | omega | exact b2i_R _ | exact ⟨b2i_R _, by omega⟩) (fun c3 => ?_) (fun c3 => ?_)
        rotate_left
        · rw [if_pos c3]
          (repeat (first | (refine TW.getf rfl rfl rfl (fun _ => ?_)) | (refine TW.pl rfl rfl ?_)))
          exact TW.iret rfl ⟨hF4, rfl, by rw [h64]; exact hv1, TSX.of hT4 rfl⟩
        rw [if_neg c3]
        have ret : ∀ (r : Option Int) (τ : TS) (R : Nat ⊕ (Nat × SS)) (i : Nat) (ls : TL), tc_workOrder[i]? = some (32, 0, 0) → SoQ σ s t os n0 R r τ → TW (d + 19) tc_workOrder i ls ((r.map Sum.inl).toList ++ []) τ (SoQ σ s t os n0 R) := by
          intro r τ R i ls hC hq
          obtain ⟨hf, hq⟩ := hq
          revert hq
          cases R with
          | inl w =>
            rintro ⟨rfl, hw1, hw8⟩
            exact TW.iret hC ⟨hf, rfl, hw1, hw8⟩
          | inr q =>
            rintro ⟨rfl, hT1⟩
            exact TW.iret hC ⟨hf, rfl, hT1⟩
        have ret2 : ∀ (r : Option Int) (τ : TS) (R : Nat ⊕ (Nat × SS)) (ls : TL), SoQ σ s t os n0 R r τ → TW (d + 19) tc_workOrder 72 ls ((r.map Sum.inl).toList ++ []) τ (SoQ σ s t os n0 R) := by
          intro r τ R ls hq
          obtain ⟨hf, hq⟩ := hq
          revert hq
          cases R with
          | inl w =>
            rintro ⟨rfl, hw1, hw8⟩
            (repeat (first | (refine TW.getf rfl rfl rfl (fun _ => ?_)) | (refine TW.pl rfl rfl ?_)))
            exact TW.iret rfl ⟨hf, rfl, hw1, hw8⟩
          | inr q =>
            rintro ⟨rfl, hT1⟩
            (repeat (first | (refine TW.getf rfl rfl rfl (fun _ => ?_)) | (refine TW.pl rfl rfl ?_)))
            exact TW.iret rfl ⟨hf, rfl, hT1⟩
        have steer : (hd l1 = 98 ∨ hd l1 = 84 ∨ hd l1 = 113 ∨ hd l1 = 78) → TW (d + 19) tc_workOrder 56 [some (.inr 0), some (.inl x0), some (.inl y), some (.inl 0), some (.inl (τ3.1 30)), some (.inl (hd l1))] [] τ4 (SoQ σ s t os n0 (if hd l1 = 98 ∨ hd l1 = 84 ∨ hd l1 = 113 ∨ hd l1 = 78 then stSte os k o2 ((x, false, du, pu, re), (h, o, fi, m, n, rp), st + 1, tu, false, rup ru k 0 HR) else if sIsG (hd l1) = true then nxP k (stEac t.length k o2 ((x, false, du, pu, re), (h, o, fi, m, n, rp), st + 1, tu, false, rup ru k 0 HR)) else nxP k (stDo t.length k 0 o2.1 ((x, false, du, pu, re), (h, o, fi, m, n, rp), st + 1, tu, false, rup ru k 0 HR)))) := by
          intro hact
          rw [if_pos hact]
          have hpa : pAct false w l1 = .inr (l2, o2.1) := by
            rcases hcase with ⟨z, _⟩ | ⟨_, z⟩
            · have : hd l1 = 123 ∨ hd l1 = 103 ∨ hd l1 = 71 := of_decide_eq_true z
              omega
            · exact z
          obtain ⟨g1, g2, g3, g4, g5⟩ := pAct_out hpa
          (repeat (first | (refine TW.getf rfl rfl rfl (fun _ => ?_)) | (refine TW.pl rfl rfl ?_)))
          refine TW.cv1 rfl rfl rfl (Nat.le_of_ble_eq_true rfl) (T_workSteer (d := d + 2) (k := k) hT4 rfl (by omega) hx4 hl1 hoa hact (fun z => ?lab) (by rw [h64]; exact hv1) hn0) ?_
          case lab =>
            obtain ⟨p1, p2, p3, p4, p5, p6, p7, p8, p9, p10⟩ := g5
            exact p7 z
          rintro r τ5 ⟨hF5, hq5⟩
          exact ret r τ5 _ _ _ rfl ⟨hF4.trans hF5, hq5⟩
        have notst : ¬ (hd l1 = 98 ∨ hd l1 = 84 ∨ hd l1 = 113 ∨ hd l1 = 78) → TW (d + 19) tc_workOrder 60 [some (.inr 0), some (.inl x0), some (.inl y), some (.inl 0), some (.inl (τ3.1 30)), some (.inl (hd l1))] [] τ4 (SoQ σ s t os n0 (if hd l1 = 98 ∨ hd l1 = 84 ∨ hd l1 = 113 ∨ hd l1 = 78 then stSte os k o2 ((x, false, du, pu, re), (h, o, fi, m, n, rp), st + 1, tu, false, rup ru k 0 HR) else if sIsG (hd l1) = true then nxP k (stEac t.length k o2 ((x, false, du, pu, re), (h, o, fi, m, n, rp), st + 1, tu, false, rup ru k 0 HR)) else nxP k (stDo t.length k 0 o2.1 ((x, false, du, pu, re), (h, o, fi, m, n, rp), st + 1, tu, false, rup ru k 0 HR)))) := by
          intro hnact
          rw [if_neg hnact]
          have each : GrpP l1 o2 → sIsG (hd l1) = true → TW (d + 19) tc_workOrder 69 [some (.inr 0), some (.inl x0), some (.inl y), some (.inl 0), some (.inl (τ3.1 30)), some (.inl (hd l1))] [] τ4 (SoQ σ s t os n0 (if sIsG (hd l1) = true then nxP k (stEac t.length k o2 ((x, false, du, pu, re), (h, o, fi, m, n, rp), st + 1, tu, false, rup ru k 0 HR)) else nxP k (stDo t.length k 0 o2.1 ((x, false, du, pu, re), (h, o, fi, m, n, rp), st + 1, tu, false, rup ru k 0 HR)))) := by
            intro hG hiG
            rw [if_pos hiG]
            (iterate 2 (first | (refine TW.getf rfl rfl rfl (fun _ => ?_)) | (refine TW.pl rfl rfl ?_)))
            refine TW.cv1 rfl rfl rfl (Nat.le_of_ble_eq_true rfl) (T_workEach (d := d + 1) hT4 rfl hk (by rw [← hsu]; exact hwh) hx4 hl1 hG hn0) ?_
            rintro r τ5 ⟨hq5, hg5⟩
            exact ret2 r τ5 _ _ (SsQ.so (hq5.pre hF4) (by rw [hg5, h64]; exact hv1) (fun S2 e => (stEac_ov e).trans rfl))
          (repeat (first | (refine TW.getf rfl rfl rfl (fun _ => ?_)) | (refine TW.pl rfl rfl ?_)))
          refine TW.br rfl rfl (by first | omega | exact b2i_R _ | exact ⟨b2i_R _, by omega⟩) (fun q6 => ?_) (fun q6 => ?_)
          · rcases hcase with ⟨z1, z2⟩ | ⟨z1, z2⟩
            · exact each z2 z1
            · have : ¬ (hd l1 = 123 ∨ hd l1 = 103 ∨ hd l1 = 71) := of_decide_eq_false z1
              omega
          (repeat (first | (refine TW.getf rfl rfl rfl (fun _ => ?_)) | (refine TW.pl rfl rfl ?_)))
          refine TW.br rfl rfl (by first | omega | exact b2i_R _ | exact ⟨b2i_R _, by omega⟩) (fun q7 => ?_) (fun q7 => ?_)
          · rcases hcase with ⟨z1, z2⟩ | ⟨z1, z2⟩
            · exact each z2 z1
            · have : ¬ (hd l1 = 123 ∨ hd l1 = 103 ∨ hd l1 = 71) := of_decide_eq_false z1
              omega
          (repeat (first | (refine TW.getf rfl rfl rfl (fun _ => ?_)) | (refine TW.pl rfl rfl ?_)))
          refine TW.br rfl rfl (by first | omega | exact b2i_R _ | exact ⟨b2i_R _, by omega⟩) (fun q8 => ?_) (fun q8 => ?_)
          rotate_left
          · rcases hcase with ⟨z1, z2⟩ | ⟨z1, z2⟩
            · exact each z2 z1
            · have : ¬ (hd l1 = 123 ∨ hd l1 = 103 ∨ hd l1 = 71) := of_decide_eq_false z1
              omega
          rcases hcase with ⟨z1, z2⟩ | ⟨z1, z2⟩
          · have : hd l1 = 123 ∨ hd l1 = 103 ∨ hd l1 = 71 := of_decide_eq_true z1
            omega
          rw [if_neg (by rw [z1]; decide)]
          obtain ⟨g1, g2, g3, g4, g5⟩ := pAct_out z2
          have hout : isOut (hd l1) = false := by
            unfold isOut
            rw [← Bool.not_eq_true]
            intro z
            have := List.contains_iff_mem.mp z
            simp at this
            omega
          (repeat (first | (refine TW.getf rfl rfl rfl (fun _ => ?_)) | (refine TW.pl rfl rfl ?_)))
          refine TW.cv2 rfl rfl rfl (Nat.le_of_ble_eq_true rfl) (T_actS (d := d + 9) hT4 (by omega) hv (keyP_sfx (by show Sfx s (suO s k) x0; rw [← hsu]; exact hx)) hx4 g1 hoa g5 h48 hout hb hn0 hk34) ?_
          rintro r τ5 ⟨hq5, hg5⟩
          exact ret r τ5 _ _ _ rfl (SsQ.so (hq5.pre hF4) (by rw [hg5, h64]; exact hv1) (fun S2 e => (stDo_ov e).trans rfl))
        (repeat (first | (refine TW.getf rfl rfl rfl (fun _ => ?_)) | (refine TW.pl rfl rfl ?_)))
        refine TW.br rfl rfl (by first | omega | exact b2i_R _ | exact ⟨b2i_R _, by omega⟩) (fun q2 => ?_) (fun q2 => ?_)
        · exact steer (by omega)
        (repeat (first | (refine TW.getf rfl rfl rfl (fun _ => ?_)) | (refine TW.pl rfl rfl ?_)))
        refine TW.br rfl rfl (by first | omega | exact b2i_R _ | exact ⟨b2i_R _, by omega⟩) (fun q3 => ?_) (fun q3 => ?_)
        · exact steer (by omega)
        (repeat (first | (refine TW.getf rfl rfl rfl (fun _ => ?_)) | (refine TW.pl rfl rfl ?_)))
        refine TW.br rfl rfl (by first | omega | exact b2i_R _ | exact ⟨b2i_R _, by omega⟩) (fun q4 => ?_) (fun q4 => ?_)
        · exact steer (by omega)
        (repeat (first | (refine TW.getf rfl rfl rfl (fun _ => ?_)) | (refine TW.pl rfl rfl ?_)))
        refine TW.br rfl rfl (by first | omega | exact b2i_R _ | exact ⟨b2i_R _, by omega⟩) (fun q5 => ?_) (fun q5 => ?_)
        · exact notst (by omega)
        · exact steer (by omega)
  (repeat (first | (refine TW.getf rfl rfl rfl (fun _ => ?_)) | (refine TW.pl rfl rfl ?_)))
  rcases hnx with ⟨z, hl⟩ | ⟨z, hpl⟩
  · subst z
    simp at hyl
    refine TW.br rfl rfl (by first | omega | exact b2i_R _ | exact ⟨b2i_R _, by omega⟩) (fun q0 => ?_) (fun q0 => ?_)
    · (iterate 2 (first | (refine TW.getf rfl rfl rfl (fun _ => ?_)) | (refine TW.pl rfl rfl ?_)))
      exact main _ (Or.inr ⟨hl, hn1⟩) (by omega)
    · omega
  · have hne2 := hd_ne z (by decide)
    have : 0 < l2.length := List.length_pos_iff.mpr hne2
    refine TW.br rfl rfl (by first | omega | exact b2i_R _ | exact ⟨b2i_R _, by omega⟩) (fun q0 => ?_) (fun q0 => ?_)
    · omega
    · (iterate 4 (first | (refine TW.getf rfl rfl rfl (fun _ => ?_)) | (refine TW.pl rfl rfl ?_)))
      exact main _ (hpl y hy) (by omega)
end TWor
