-- C
set_option maxRecDepth 100000
/-! LINEORDERS: doAll -/
/-- the whole state between two calls -/
def PwI (S : BS) (K : Nat → Nat) (la : Int → Nat) (tp : List Int) (sc : Nat → Option (List Int)) (A : St) (ds : List SDeed) (cl re B : Nat) : Prop := ∃ cap, cap ≤ 100 ∧ LO S K la A (B + 6 * cap) ∧ DsI S K la ds cap ∧ RsI S K tp sc ∧ Fi S 11 (K 1) cl ∧ Fi S 12 (K 1) re
section DA
variable {d n m q i a b e y cap c k j pl B p F0 cl re : Nat} {S S' S0 S1 S2 : BS} {K : Nat → Nat} {la la' : Int → Nat} {A A1 : St} {F V : Nat → Prop} {v nn b1 x1 : Int} {r : Option Nat} {dq : SDeed} {t : List SLine} {xs ws : List (Option Nat)} {ids : List Int} {G G' : BG} {ds : List SDeed} {tp : List Int} {sc : Nat → Option (List Int)} {o : SOrd} {os : List SOrd} {zz : Prop} {od : SOrd0}
theorem L_isDeed (hm : Ob S m (oOwn 7)) (h48 : Fi S 48 m (oAct od)) : BE (d + 1) gk_X4_isDeed [aR m] S (vI (if isDeedA (oAct od) = true then 1 else 0)) := by
  have e : isDeedA (oAct od) = decide (oAct od ≠ 58 ∧ oAct od ≠ 98 ∧ oAct od ≠ 84 ∧ oAct od ≠ 113) := rfl
  rw [e]
  have no : (oAct od = 58 ∨ oAct od = 98 ∨ oAct od = 84 ∨ oAct od = 113) → BW d gm_X4_isDeed 18 [some (aR m)] [] S (fun r S' => ∃ v, r = .inl v ∧ (vI (if decide (oAct od ≠ 58 ∧ oAct od ≠ 98 ∧ oAct od ≠ 84 ∧ oAct od ≠ 113) = true then 1 else 0) = v ∧ S = S')) := fun z => by
    (repeat (refine BW.pl rfl rfl ?_))
    exact BW.irx rfl (Or.inr (Or.inl ⟨rfl, Or.inl rfl⟩)) ⟨_, rfl, by rw [if_neg (by rw [decide_eq_true_iff]; omega)], rfl⟩
  refine BM.of rfl rfl rfl ?_
  (repeat (first | (refine BW.pl rfl rfl ?_) | (refine CW.geti rfl rfl (by assumption) rfl rfl (by assumption) (fun _ => ?_)) | (refine CW.getr rfl rfl (by assumption) rfl rfl (by assumption) ?_)))
  by_cases z1 : oAct od = 58
  · refine BW.br rfl rfl (by first | omega | decide | (constructor <;> first | omega | decide)) (fun w1 => ?_) (fun w1 => by first | (exfalso; omega) | exact absurd w1 (by decide))
    exact no (Or.inl z1)
  refine BW.br rfl rfl (by first | omega | decide | (constructor <;> first | omega | decide)) (fun w1 => by first | (exfalso; omega) | exact absurd w1 (by decide)) (fun w1 => ?_)
  (repeat (first | (refine BW.pl rfl rfl ?_) | (refine CW.geti rfl rfl (by assumption) rfl rfl (by assumption) (fun _ => ?_)) | (refine CW.getr rfl rfl (by assumption) rfl rfl (by assumption) ?_)))
  by_cases z2 : oAct od = 98
  · refine BW.br rfl rfl (by first | omega | decide | (constructor <;> first | omega | decide)) (fun w2 => ?_) (fun w2 => by first | (exfalso; omega) | exact absurd w2 (by decide))
    exact no (Or.inr (Or.inl z2))
  refine BW.br rfl rfl (by first | omega | decide | (constructor <;> first | omega | decide)) (fun w2 => by first | (exfalso; omega) | exact absurd w2 (by decide)) (fun w2 => ?_)
  (repeat (first | (refine BW.pl rfl rfl ?_) | (refine CW.geti rfl rfl (by assumption) rfl rfl (by assumption) (fun _ => ?_)) | (refine CW.getr rfl rfl (by assumption) rfl rfl (by assumption) ?_)))
  by_cases z3 : oAct od = 84
  · refine BW.br rfl rfl (by first | omega | decide | (constructor <;> first | omega | decide)) (fun w3 => ?_) (fun w3 => by first | (exfalso; omega) | exact absurd w3 (by decide))
    exact no (Or.inr (Or.inr (Or.inl z3)))
  refine BW.br rfl rfl (by first | omega | decide | (constructor <;> first | omega | decide)) (fun w3 => by first | (exfalso; omega) | exact absurd w3 (by decide)) (fun w3 => ?_)
  (repeat (first | (refine BW.pl rfl rfl ?_) | (refine CW.geti rfl rfl (by assumption) rfl rfl (by assumption) (fun _ => ?_)) | (refine CW.getr rfl rfl (by assumption) rfl rfl (by assumption) ?_)))
  by_cases z4 : oAct od = 113
  · refine BW.br rfl rfl (by first | omega | decide | (constructor <;> first | omega | decide)) (fun w4 => ?_) (fun w4 => by first | (exfalso; omega) | exact absurd w4 (by decide))
    exact no (Or.inr (Or.inr (Or.inr z4)))
  refine BW.br rfl rfl (by first | omega | decide | (constructor <;> first | omega | decide)) (fun w4 => by first | (exfalso; omega) | exact absurd w4 (by decide)) (fun w4 => ?_)
  (repeat (refine BW.pl rfl rfl ?_))
  exact BW.irx rfl (Or.inr (Or.inl ⟨rfl, Or.inr rfl⟩)) ⟨_, rfl, by rw [if_pos (by rw [decide_eq_true_iff]; exact ⟨z1, z2, z3, z4⟩)], rfl⟩
theorem LO.puN11 (hL : LO S K la A B) (hP : Pu S S' a (K 1)) (ha : a = 11 ∨ a = 12 ∨ a = 13) : LO S' K la A B := hL.puO hP (by rcases ha with z | z | z <;> rw [z] <;> decide)
theorem PwI.mk9 (h1 : LO S K la A (B + 6 * cap)) (hc : cap ≤ 100) (h2 : DsI S K la ds cap) (h3 : RsI S K tp sc) (h4 : Fi S 11 (K 1) cl) (h5 : Fi S 12 (K 1) re) : PwI S K la tp sc A ds cl re B := ⟨cap, hc, h1, h2, h3, h4, h5⟩
theorem DqK.up {n n' : Int} (h : DqK n dq) (hn : n ≤ n') : DqK n' dq := ⟨h.1, h.2.1, h.2.2.1, h.2.2.2.1, fun x hx => ⟨⟨(h.2.2.2.2.1 x hx).1.1, Int.lt_of_lt_of_le (h.2.2.2.2.1 x hx).1.2 hn⟩, (h.2.2.2.2.1 x hx).2⟩, h.2.2.2.2.2⟩
theorem DqK.of (hw : WF A) (hcl : cl < 2000000) : DqK A.2.2.2.2.2.2.1 (cl, A.1, A.2.1, A.2.2.2.2.2.1) := ⟨hcl, hw.1, hw.2.1, hw.2.2.1, fun x hx => hw.2.2.2.1 x hx, hw.2.2.2.2.1⟩
theorem keepD_mem {q : SDeed} (h : q ∈ keepD ds dq) : q ∈ ds ∨ q = dq := by
  unfold keepD at h
  split at h
  · rcases List.mem_append.mp h with z | z
    · exact Or.inl (List.mem_of_mem_drop z)
    · exact Or.inr (List.mem_singleton.mp z)
  · rcases List.mem_append.mp h with z | z
    · exact Or.inl z
    · exact Or.inr (List.mem_singleton.mp z)
theorem keepD_len (h : ds.length ≤ 40) : (keepD ds dq).length ≤ 40 := by
  unfold keepD
  split
  · simp; omega
  · simp; omega
theorem sJump_le {j : Nat} (h : sJump os od = .inr j) : j ≤ os.length := by
  unfold sJump at h
  split at h
  · cases h; exact Nat.le_refl _
  · cases hl : sLab os (oNum od) with
    | none => rw [hl] at h; cases h
    | some k => rw [hl] at h; cases h; exact sLab_lt hl
theorem sOne_lt {c1 : Nat} (hk : k < os.length) (h : sOne os k o c A = .inr (j, c1, A1)) : j ≤ os.length := by
  unfold sOne at h
  split at h
  · cases h; exact hk
  · split at h
    · cases hs : sSteer os k o.1 A with
      | inl w => rw [hs] at h; cases h
      | inr q =>
        obtain ⟨j', A'⟩ := q
        rw [hs] at h
        cases h
        rw [sSteer_def] at hs
        have h1 : ∀ {j A1}, sOne1 os k o.1 A = .inr (j, A1) → j ≤ os.length := by
          intro j A1 h
          unfold sOne1 at h
          split at h
          · cases h; exact Nat.le_refl _
          · split at h
            · split at h
              · cases h
              · cases h; exact hk
            · split at h
              · cases hj : sJump os o.1 with
                | inl w => rw [hj] at h; cases h
                | inr j' => rw [hj] at h; cases h; exact sJump_le hj
              · split at h
                · cases hj : sJump os o.1 with
                  | inl w => rw [hj] at h; cases h
                  | inr j' => rw [hj] at h; cases h; exact sJump_le hj
                · cases h; exact hk
        split at hs
        · cases hr : sRange A o.1 with
          | inl w => rw [hr] at hs; cases hs
          | inr q =>
            obtain ⟨f, e⟩ := q
            rw [hr] at hs
            dsimp only at hs
            split at hs
            · exact h1 hs
            · cases hs; exact hk
        · exact h1 hs
    · cases hs : sOrd A o c with
      | inl w => rw [hs] at h; cases h
      | inr q =>
        obtain ⟨c', A'⟩ := q
        rw [hs] at h
        cases h
        exact hk
theorem L_doAll (h : PwI S K la tp sc A ds cl re B) (hK : ∀ m, F m → KoM K m) (hOs : OrsIs S F zz q os) (hos : ∀ o ∈ os, OrdOk o ∧ OgK o) (hol : os.length ≤ 25) (hw : WF A) (hds : ∀ q ∈ ds, DqK A.2.2.2.2.2.2.1 q) (hdl : ds.length ≤ 40) (hcl : cl < 1000) (hn : A.2.2.2.2.2.2.1 < 1800000) (hB : B + 3000000 ≤ 20000000) : BMr (d + 193) gk_X1_doAll [aR (K 1), aR q] S (fun r S' => ∃ la', r = vI (sAll os (cl + 1) A ds).1 ∧ PwI S' K la' tp sc (sAll os (cl + 1) A ds).2.2.1 (sAll os (cl + 1) A ds).2.2.2 (cl + 1) (sAll os (cl + 1) A ds).2.1 (B + 296000)) := by
  obtain ⟨cap0, hcap0, hL, hD, hR, h11, h12⟩ := h
  have hkq : KoM K q := hK q hOs.1
  obtain ⟨hFq, xs, capq, hq, hEl⟩ := id hOs
  have hxl := hEl.1
  have hgo : ∀ k, (hk : k < os.length) → ∃ mk, xs.getD k none = some mk ∧ OrdIs S F zz mk os[k] := fun k hk => by
    obtain ⟨mk, ⟨g1, _⟩, g2⟩ := hEl.2 k hk
    have : os.getD k noOrd = os[k] := by rw [List.getD_eq_getElem?_getD, List.getElem?_eq_getElem hk]; rfl
    rw [this] at g2
    exact ⟨mk, g1, g2⟩
  obtain ⟨htt, _⟩ := hL.1.tt
  have h100 := hw.2.2.2.2.2.2.2.1.1
  refine BM.of rfl rfl rfl ?_
  (repeat (refine BW.pl rfl rfl ?_))
  have hq1 : ∀ k, (hk : k < os.length) → ∃ mk, xs.getD k none = some mk ∧ Ob S mk (oOwn 7) ∧ Fi S 48 mk (oAct os[k].1) ∧ Fi S 49 mk (oNum os[k].1) := fun k hk => by
    obtain ⟨mk, g1, g2⟩ := hgo k hk
    exact ⟨mk, g1, g2.1.2.1, g2.1.2.2.2.2.2.1, by obtain ⟨_, _, _, _, _, _, ⟨_, _, _, z, _⟩, _⟩ := g2.1; exact z⟩
  have hq2 : ∀ o ∈ os, oAct o.1 = 58 → 0 ≤ oNum o.1 ∧ oNum o.1 < 100 := fun o ho z => by
    obtain ⟨⟨l, l2, hp, h48⟩, hog⟩ := hos o ho
    have := hog.2.1
    have h58 : 0 ≤ oNum o.1 := by
      obtain ⟨l1, w, h1, h2, h3, h4⟩ := pOrder_out hp h48
      rcases h4 with ⟨g1, _⟩ | ⟨g1, g2⟩
      · rw [← h2.2.2.2, z] at g1; exact absurd g1 (by decide)
      · have g3 := (pAct_out g2).2.2.2.2.2.2.2.2.2.1 (by rw [← h2.2.2.2]; exact z)
        have g4 : 65 ≤ hd l1.tail ∧ hd l1.tail ≤ 90 := of_decide_eq_true g3.1
        rw [g3.2]; omega
    exact ⟨h58, by omega⟩
  refine CW.c1 rfl rfl (by first | exact Or.inl rfl | exact Or.inr (tagO (by assumption) (by rfl) (by rfl))) (by first | exact Or.inl (by decide) | exact Or.inr ⟨_, rfl, by assumption⟩) rfl (L_labelsOf (d := d + 184) hq hxl hq1 hq2 (by omega) (by omega)) ?_
  rintro r S1 ⟨tm, Mm, rfl, htm0, htm, hMm, hF1⟩
  have hkt : KoM K tm := hL.1.ko htm0
  have hX1 : XF K (fun _ => True) S S1 := XF.rf.f0 hF1
  have hL1 := hL.fr hF1 LoW.no (by omega)
  have hD1 := hD.xg (XG.of hX1) hL.1
  have hR1 := hR.xg (XG.of hX1) hL.1 hL1.1
  have h111 := hX1.fK hL.1 h11 (by decide)
  have hOs1 := hOs.xf hX1 hK
  have hx1 := hL1.1.obx
  (repeat (first | (refine BW.pl rfl rfl ?_) | (refine CW.geti rfl rfl (by assumption) rfl rfl (by assumption) (fun _ => ?_)) | (refine CW.getr rfl rfl (by assumption) rfl rfl (by assumption) ?_)))
  first | (refine CW.putr rfl rfl (by assumption) rfl (by decide) (fun S2 hP2 h112 => ?_)) | (refine CW.puti rfl (by assumption) rfl (by decide) (by first | exact Or.inl ⟨rfl, by first | omega | decide | (constructor <;> first | omega | decide)⟩ | exact Or.inr (Or.inl ⟨rfl, by first | omega | decide | (constructor <;> first | omega | decide)⟩) | exact Or.inr (Or.inr (Or.inl ⟨rfl, by first | omega | decide | (constructor <;> first | omega | decide)⟩)) | exact Or.inr (Or.inr (Or.inr ⟨rfl, by first | omega | decide | (constructor <;> first | omega | decide)⟩))) (fun S2 hP2 h112 => ?_))
  have hx2 := hx1.pu hP2 trivial
  (repeat (refine BW.pl rfl rfl ?_))
  first | (refine CW.putr rfl rfl (by assumption) rfl (by decide) (fun S3 hP3 h123 => ?_)) | (refine CW.puti rfl (by assumption) rfl (by decide) (by first | exact Or.inl ⟨rfl, by first | omega | decide | (constructor <;> first | omega | decide)⟩ | exact Or.inr (Or.inl ⟨rfl, by first | omega | decide | (constructor <;> first | omega | decide)⟩) | exact Or.inr (Or.inr (Or.inl ⟨rfl, by first | omega | decide | (constructor <;> first | omega | decide)⟩)) | exact Or.inr (Or.inr (Or.inr ⟨rfl, by first | omega | decide | (constructor <;> first | omega | decide)⟩))) (fun S3 hP3 h123 => ?_))
  have hx3 := hx2.pu hP3 trivial
  (repeat (refine BW.pl rfl rfl ?_))
  first | (refine CW.putr rfl rfl (by assumption) rfl (by decide) (fun S4 hP4 h144 => ?_)) | (refine CW.puti rfl (by assumption) rfl (by decide) (by first | exact Or.inl ⟨rfl, by first | omega | decide | (constructor <;> first | omega | decide)⟩ | exact Or.inr (Or.inl ⟨rfl, by first | omega | decide | (constructor <;> first | omega | decide)⟩) | exact Or.inr (Or.inr (Or.inl ⟨rfl, by first | omega | decide | (constructor <;> first | omega | decide)⟩)) | exact Or.inr (Or.inr (Or.inr ⟨rfl, by first | omega | decide | (constructor <;> first | omega | decide)⟩))) (fun S4 hP4 h144 => ?_))
  have hx4 := hx3.pu hP4 trivial
  (repeat (refine BW.pl rfl rfl ?_))
  first | (refine CW.putr rfl rfl (by assumption) rfl (by decide) (fun S5 hP5 h135 => ?_)) | (refine CW.puti rfl (by assumption) rfl (by decide) (by first | exact Or.inl ⟨rfl, by first | omega | decide | (constructor <;> first | omega | decide)⟩ | exact Or.inr (Or.inl ⟨rfl, by first | omega | decide | (constructor <;> first | omega | decide)⟩) | exact Or.inr (Or.inr (Or.inl ⟨rfl, by first | omega | decide | (constructor <;> first | omega | decide)⟩)) | exact Or.inr (Or.inr (Or.inr ⟨rfl, by first | omega | decide | (constructor <;> first | omega | decide)⟩))) (fun S5 hP5 h135 => ?_))
  have hk1q : ∀ m, KoM K m → m ≠ K 1 := fun m hm => hm 1 (by decide)
  have hL2 : LO S2 K la A _ := hL1.puN11 hP2 (Or.inl rfl)
  have hL3 : LO S3 K la A _ := hL2.puN11 hP3 (Or.inr (Or.inl rfl))
  have hL4 : LO S4 K la (setR A false) _ := hL3.puR hP4 h144 rfl
  have hL5 : LO S5 K la (setR A false) _ := hL4.puN11 hP5 (Or.inr (Or.inr rfl))
  have hD5 := (((hD1.pu hP2).pu hP3).pu hP4).pu hP5
  have hR5 := (((hR1.pu hP2 (by decide)).pu hP3 (by decide)).pu hP4 (by decide)).pu hP5 (by decide)
  have h115 : Fi S5 11 (K 1) ((cl + 1 : Nat) : Int) := by
    have h9 := ((h112.pu hP3 (Or.inl (by decide))).pu hP4 (Or.inl (by decide))).pu hP5 (Or.inl (by decide))
    have e9 : (cl : Int) + 1 = ((cl + 1 : Nat) : Int) := by omega
    rw [← e9]; exact h9
  have h125 : Fi S5 12 (K 1) ((0 : Nat) : Int) := (h123.pu hP4 (Or.inl (by decide))).pu hP5 (Or.inl (by decide))
  have h135' : Fi S5 13 (K 1) ((0 : Nat) : Int) := h135
  have hOs5 : OrsIs S5 F zz q os := by
    have nk : ∀ {Sa Sb : BS} {f : Nat}, OrsIs Sa F zz q os → Ob Sa (K 1) (oOwn 1) → Pu Sa Sb f (K 1) → OrsIs Sb F zz q os := fun h1 h2 hP => h1.fr hP.fr ⟨NoS.one h2 rfl, fun m hw hm => hK m hm 1 (by decide) hw⟩
    exact nk (nk (nk (nk hOs1 hx1 hP2) hx2 hP3) hx3 hP4) hx4 hP5
  have htm5 : Ob S5 tm (oTm Mm) := (((htm.pu hP2 trivial).pu hP3 trivial).pu hP4 trivial).pu hP5 trivial
  have hwR := hw.setR false
  have hnR : (setR A false).2.2.2.2.2.2.1 = A.2.2.2.2.2.2.1 := setR_nid
  have hoR : (setR A false).2.2.2.1 = A.2.2.2.1 := setR_out
  have eAll : sAll os (cl + 1) A ds = sAllF os (cl + 1) 61 0 0 0 (setR A false) ds := rfl
  rw [eAll]
  (iterate 4 (refine BW.pl rfl rfl ?_))
  generalize hres : sAllF os (cl + 1) 61 0 0 0 (setR A false) ds = RES
  have loop : ∀ (N k c done : Nat) (A2 : St) (ds2 : List SDeed) (la2 : Int → Nat) (cap2 : Nat) (S2 : BS) (v5 v6 v7 : Option GV), gn1 v5 = true → gn1 v6 = true → gn1 v7 = true → 61 ≤ N + c → N ≤ 61 → c ≤ 60 → done ≤ c → k < 1000 → WF A2 → A2.2.2.2.2.2.2.1 + 40 * (61 - (c : Int)) < 1900000 → (∀ q ∈ ds2, DqK A2.2.2.2.2.2.2.1 q) → ds2.length ≤ 40 → cap2 ≤ 100 → LO S2 K la2 A2 (B + 500 + 3680 * c + 480 * (A2.2.2.2.1.length - A.2.2.2.1.length) + 6 * cap2) → A.2.2.2.1.length ≤ A2.2.2.2.1.length → DsI S2 K la2 ds2 cap2 → RsI S2 K tp sc → Fi S2 11 (K 1) ((cl + 1 : Nat) : Int) → Fi S2 12 (K 1) ((0 : Nat) : Int) → Fi S2 13 (K 1) (c : Int) → OrsIs S2 F zz q os → Ob S2 tm (oTm Mm) → sAllF os (cl + 1) N k c done A2 ds2 = RES → BW (d + 192) gm_X1_doAll 22 [some (aR (K 1)), some (aR q), some (aR tm), some (aI done), some (aI k), v5, v6, v7] [] S2 (fun r S' => ∃ v, r = .inl v ∧ ∃ la', v = vI RES.1 ∧ PwI S' K la' tp sc RES.2.2.1 RES.2.2.2 (cl + 1) RES.2.1 (B + 296000)) := by
    intro N
    induction N with
    | zero => intro k c done A2 ds2 la2 cap2 S2 v5 v6 v7 _ _ _ h1 _ h2; omega
    | succ N ih =>
      intro k c done A2 ds2 la2 cap2 S2 v5 v6 v7 g5 g6 g7 hNc hN61 hc hdone hk1 hw2 hn2 hds2 hdl2 hcap2 hL2 ho2 hD2 hR2 h112 h122 h132 hOs2 htm2 hR9
      have e0 : sAllF os (cl + 1) (N + 1) k c done A2 ds2 = match os[k]? with
        | none => (done, 0, A2, ds2)
        | some o => if c = 60 then (done, 7, A2, ds2) else match sOne os k o (c + 1) A2 with
          | .inl w => (done, w, A2, ds2)
          | .inr (k1, c1, A1) => sAllF os (cl + 1) N k1 c1 (done + 1) A1 (if isDeedA (oAct o.1) = true then keepD ds2 (cl + 1, A2.1, A2.2.1, A2.2.2.2.2.2.1) else ds2) := rfl
      rw [e0] at hR9
      have h1002 := hw2.2.2.2.2.2.2.2.1.1
      obtain ⟨hFq2, xs2, capq2, hq2, hEl2⟩ := id hOs2
      have hxl2 := hEl2.1
      (repeat (refine BW.pl rfl rfl ?_))
      refine CW.e1 rfl rfl (by first | exact Or.inl rfl | exact Or.inr (tagO (by assumption) (by rfl) (by rfl))) (by first | exact Or.inl (by decide) | exact Or.inr ⟨_, rfl, by assumption⟩) rfl (B_alSize hq2) ?_
      rw [hxl2]
      by_cases hkl : k < os.length
      rotate_left
      · rw [List.getElem?_eq_none (by omega)] at hR9
        refine BW.br rfl rfl (by first | omega | decide | (constructor <;> first | omega | decide)) (fun w1 => ?_) (fun w1 => by first | (exfalso; omega) | exact absurd w1 (by decide))
        (repeat (refine BW.pl rfl rfl ?_))
        subst hR9
        exact BW.irx rfl (Or.inl ⟨rfl, by constructor <;> omega⟩) ⟨_, rfl, la2, rfl, cap2, hcap2, hL2.le (by omega) (by omega), hD2, hR2, h112, h122⟩
      · have hok : os[k]? = some os[k] := List.getElem?_eq_getElem hkl
        have hom : os[k] ∈ os := List.getElem_mem hkl
        obtain ⟨mk, ⟨hmk, _⟩, hO2⟩ := hEl2.2 k hkl
        have hgd : os.getD k noOrd = os[k] := by rw [List.getD_eq_getElem?_getD, List.getElem?_eq_getElem hkl]; rfl
        rw [hgd] at hO2
        generalize os[k] = o at hok hom hO2 hgd
        rw [hok] at hR9
        dsimp only at hR9
        obtain ⟨hoOk, hog⟩ := hos o hom
        have hx2 := hL2.1.obx
        refine BW.br rfl rfl (by first | omega | decide | (constructor <;> first | omega | decide)) (fun w1 => by first | (exfalso; omega) | exact absurd w1 (by decide)) (fun w1 => ?_)
        (repeat (refine BW.pl rfl rfl ?_))
        refine CW.e2 rfl rfl (by first | exact Or.inl rfl | exact Or.inr (tagO (by assumption) (by rfl) (by rfl))) (by first | exact Or.inl (by decide) | exact Or.inr ⟨_, rfl, by assumption⟩) rfl (C_alGet (k := k) hq2 (by omega) hmk rfl) ?_
        refine CW.castS rfl hO2.1.2.1 rfl rfl rfl ?_
        refine BW.strV rfl rfl (by simp only [List.all_cons, List.all_nil, g5, g6, g7]; rfl) ?_
        refine CW.newO (L := 7) (c := 3) rfl rfl rfl rfl (fun ah S3 hN3 => ?_)
        have hX23 : XF K (fun _ => True) S2 S3 := XF.rf.nw hN3
        have hL3 := hL2.fr hN3.fr LoW.no (by omega)
        have hka : KoM K ah := hL2.1.ko hN3.nil
        have hahz := hN3.nil
        have hD3 := hD2.xg (XG.of hX23) hL2.1
        have hR3 := hR2.xg (XG.of hX23) hL2.1 hL3.1
        have h113 := hX23.fK hL2.1 h112 (by decide)
        have h123' := hX23.fK hL2.1 h122 (by decide)
        have h133 := hX23.fK hL2.1 h132 (by decide)
        have hOs3 := hOs2.xf hX23 hK
        have htm3 := (hX23.ob htm2 hkt (oNe rfl) rfl).1
        have hah := hN3.ob
        have hahk := hN3.1
        have hx3 := hL3.1.obx
        (repeat (first | (refine BW.pl rfl rfl ?_) | (refine CW.geti rfl rfl (by assumption) rfl rfl (by assumption) (fun _ => ?_)) | (refine CW.getr rfl rfl (by assumption) rfl rfl (by assumption) ?_)))
        refine CW.c3 rfl rfl (by first | exact Or.inl rfl | exact Or.inr (tagO (by assumption) (by rfl) (by rfl))) (by first | exact Or.inl (by decide) | exact Or.inr ⟨_, rfl, by assumption⟩) rfl (L_aheadNew (d := d + 183) (pl := cl + 1) hL3 hah hahk hka hw2 (by omega) rfl (by omega)) ?_
        rintro r S4 ⟨rfl, hF4, hH4⟩
        have hL4 : LO S4 K la2 A2 (B + 979 + 3680 * c + 480 * (A2.2.2.2.1.length - A.2.2.2.1.length) + 6 * cap2) := (hL3.fr hF4 (LoW.one hka hah (ownNe rfl) rfl) (by omega)).le (by omega) (by omega)
        have hD4 := hD3.fr hF4 hah hka
        have hR4 := hR3.fr hF4 hah rfl hka hL3.1
        have hsk : Sep S3 (fun k => k = ah) (K 1) := fun z => hka 1 (by decide) z.symm
        have e3x := hx3.old (oNe rfl)
        have h114 := h113.fr hF4 ⟨⟨e3x, by decide⟩, hsk⟩
        have h124 := h123'.fr hF4 ⟨⟨e3x, by decide⟩, hsk⟩
        have h134 := h133.fr hF4 ⟨⟨e3x, by decide⟩, hsk⟩
        have hX24 : XF K (fun _ => True) S2 S4 := hX23.f1 hF4 (fun z => absurd hahz z)
        have hOs4 := hOs2.xf hX24 hK
        have htm4 := (hX24.ob htm2 hkt (oNe rfl) rfl).1
        refine BW.strV rfl rfl (by simp only [List.set, List.all_cons, List.all_nil, g6, g7]; rfl) ?_
        have hx4 := hL4.1.obx
        -- what is refused is brought back
        have caught : ∀ (w : Nat) (E : Nat) (q9 : Option Nat) (S7 S8 : BS) (la8 : Int → Nat) (A8 : St) (B8 : Nat), LB S7 K la8 (idsOfL A8.1) A8.2.1 A8.2.2 B8 → XG K (fun _ => True) S4 S7 → LaE la2 la8 A2.2.2.2.2.2.2.1 → A2.2.2.2.2.2.2.1 ≤ A8.2.2.2.2.2.2.1 → (∃ ex, A8.2.2.2.1 = A2.2.2.2.1 ++ ex) → Thr9 11 78 w S7 (.inr (E, q9)) S8 → B8 + 1400 ≤ B + 296000 + 6 * cap2 → (done, w, A2, ds2) = RES → (ghnd gm_X1_doAll.2.2.2 39 = ghnd gm_X1_doAll.2.2.2 44) → ∃ h n, ghnd gm_X1_doAll.2.2.2 39 = some (h, E) ∧ q9 = some n ∧ BW (d + 192) gm_X1_doAll h [some (aR (K 1)), some (aR q), some (aR tm), some (aI done), some (aI k), some (aR mk), some (aR ah), v7] [.inr (.inr (some n))] S8 (fun r S' => ∃ v, r = .inl v ∧ ∃ la', v = vI RES.1 ∧ PwI S' K la' tp sc RES.2.2.1 RES.2.2.2 (cl + 1) RES.2.1 (B + 296000)) := by
          intro w E q9 S7 S8 la8 A8 B8 hL7 hX7 hE7 hn7 hex7 hT7 hB8 hRES _
          obtain ⟨n9, e9, hn91, hn9z, hn9, h789, hF8⟩ := hT7.fr0 (Or.inr rfl)
          cases e9
          refine ⟨47, n9, rfl, rfl, ?_⟩
          have hX78 : XF K (fun _ => True) S7 S8 := XF.rf.f0 hF8
          have hL8 := hL7.fr hF8 LoW.no (by omega)
          have hX8 := hX7.xf hX78
          have hk9 : KoM K n9 := hL7.ko hn9z
          have hH8 : AhIs S8 K la8 ah (cl + 1) A2 := (hH4.xg hX8).lae hE7 (fun x hx => ((DqK.of (cl := cl + 1) hw2 (by omega)).idR hx).2) (fun j x _ hx => ((DqK.of (cl := cl + 1) hw2 (by omega)).mk hx).2)
          refine BW.strV rfl rfl (by simp only [List.all_cons, List.all_nil, g7]; rfl) ?_
          have hah8 := hH8.2.1
          (repeat (refine BW.pl rfl rfl ?_))
          refine CW.c1 rfl rfl (by first | exact Or.inl rfl | exact Or.inr (tagO (by assumption) (by rfl) (by rfl))) (by first | exact Or.inl (by decide) | exact Or.inr ⟨_, rfl, by assumption⟩) rfl (L_aheadBring (d := d + 181) hL8 hH8 hw2 (by omega) hn7 hex7 (by omega)) ?_
          rintro r S9 ⟨rfl, hL9, hX89⟩
          have hX9 := hX8.xf hX89
          have hD9 : DsI S9 K la8 ds2 cap2 := (hD4.xg hX9 hL4.1).lae hE7 hds2
          have hRs9 := hR4.xg hX9 hL4.1 hL9.1
          have h119 := hX9.fK hL4.1 h114 (by decide) (by decide)
          have hn99 := (hX89.ob hn9 hk9 (oNe rfl) rfl).1
          have h7899 := hX89.fi hn9 hk9 (oNe rfl) rfl h789 (by decide)
          have hx9 := hL9.1.obx
          (repeat (first | (refine BW.pl rfl rfl ?_) | (refine CW.geti rfl rfl (by assumption) rfl rfl (by assumption) (fun _ => ?_)) | (refine CW.getr rfl rfl (by assumption) rfl rfl (by assumption) ?_)))
          first | (refine CW.putr rfl rfl (by assumption) rfl (by decide) (fun S10 hP10 h1210 => ?_)) | (refine CW.puti rfl (by assumption) rfl (by decide) (by first | exact Or.inl ⟨rfl, by first | omega | decide | (constructor <;> first | omega | decide)⟩ | exact Or.inr (Or.inl ⟨rfl, by first | omega | decide | (constructor <;> first | omega | decide)⟩) | exact Or.inr (Or.inr (Or.inl ⟨rfl, by first | omega | decide | (constructor <;> first | omega | decide)⟩)) | exact Or.inr (Or.inr (Or.inr ⟨rfl, by first | omega | decide | (constructor <;> first | omega | decide)⟩))) (fun S10 hP10 h1210 => ?_))
          (repeat (refine BW.pl rfl rfl ?_))
          have hL10 := hL9.puN11 hP10 (Or.inr (Or.inl rfl))
          subst hRES
          exact BW.irx rfl (Or.inl ⟨rfl, by constructor <;> omega⟩) ⟨_, rfl, la8, rfl, cap2, hcap2, hL10.le (by omega) (by omega), hD9.pu hP10, hRs9.pu hP10 (by decide), h119.pu hP10 (Or.inl (by decide)), h1210⟩
        (repeat (refine BW.pl rfl rfl ?_))
        refine CW.call (as := [aR (K 1)]) (rest := []) rfl rfl rfl rfl rfl (by first | exact Or.inl rfl | exact Or.inr (tagO hx4 rfl rfl)) (Or.inl (by decide)) (L_comeTo (d := d + 187) hL4 h134 hc) (fun r S5 h5 => ?_) (fun E q9 S5 h5 => ?_)
        rotate_left
        · right
          by_cases z60 : c = 60
          · rw [if_pos z60] at h5 hR9
            exact caught 7 E q9 S4 S5 la2 A2 _ hL4.1 XG.rf LaE.rf (Int.le_refl _) ⟨[], by simp⟩ h5 (by omega) hR9 rfl
          · rw [if_neg z60] at h5
            cases h5.1
        by_cases z60 : c = 60
        · rw [if_pos z60] at h5
          obtain ⟨_, e9, _⟩ := h5
          cases e9
        rw [if_neg z60] at h5 hR9
        obtain ⟨e5, hL5, hP5, h135⟩ := h5
        cases e5
        have hX45 : XG K (fun _ => True) S4 S5 := XG.rf.pu hP5
        have hx5 := hL5.1.obx
        have hOs5 := hOs4.xg hX45 hK hx5
        obtain ⟨hFq5, xs5, capq5, hq5, hEl5⟩ := id hOs5
        have hxl5 := hEl5.1
        have htm5 := htm4.pu hP5 trivial
        obtain ⟨mk5, ⟨hmk5, _⟩, hO5⟩ := hEl5.2 k hkl
        rw [hgd] at hO5
        (repeat (refine BW.pl rfl rfl ?_))
        refine CW.call (as := [aR (K 1), aR q, aI k, aR tm]) (rest := []) rfl rfl rfl rfl rfl (by first | exact Or.inl rfl | exact Or.inr (tagO hx5 rfl rfl)) (Or.inl (by decide)) (L_doOne (d := d + 1) (k := k) (c := c + 1) hL5 hK hq5 hxl5 hmk5 hO5 hog hoOk hw2 hkl hol htm5 hMm h135 (by omega) (by omega) (by omega) hkq hkt rfl) (fun r S6 h6 => ?_) (fun E q9 S6 h6 => ?_)
        rotate_left
        · right
          cases hs : sOne os k o (c + 1) A2 with
          | inl w =>
            rw [hs] at h6 hR9
            obtain ⟨S7, la7, A7, g1, g2, g3, g4, g5', g6'⟩ := h6
            exact caught w E q9 S7 S6 la7 A7 _ g1 (hX45.tr g2) g3 g4 g5' g6' (by omega) hR9 rfl
          | inr z =>
            obtain ⟨j9, c9, A9⟩ := z
            rw [hs] at h6
            cases h6.1
        cases hs : sOne os k o (c + 1) A2 with
        | inl w =>
          rw [hs] at h6
          obtain ⟨S7, la7, A7, g1, g2, g3, g4, g5', _, e9, _⟩ := h6
          cases e9
        | inr z =>
          obtain ⟨j9, c9, A9⟩ := z
          rw [hs] at h6 hR9
          dsimp only at hR9
          obtain ⟨e6, _, la9, hL6, hX56, hE9, h136, hcc9, ex9, hex9⟩ := h6
          cases e6
          obtain ⟨hw9, hc91, hc92, hn91, hn92⟩ := sOne_wf hoOk hw2 (by omega) hs
          have hex9l : A9.2.2.2.1.length = A2.2.2.2.1.length + ex9.length := by rw [hex9, List.length_append]
          have h1009 := hw9.2.2.2.2.2.2.2.1.1
          have hj9 : j9 < 1000 := by
            have := sOne_lt hkl hs
            omega
          have hX46 := hX45.tr hX56
          have hD6 : DsI S6 K la9 ds2 cap2 := (hD4.xg hX46 hL4.1).lae hE9 hds2
          have hR6 := hR4.xg hX46 hL4.1 hL6.1
          have h116 := hX46.fK hL4.1 h114 (by decide) (by decide)
          have h126 := hX46.fK hL4.1 h124 (by decide) (by decide)
          have hOs6 := hOs4.xg hX46 hK hL6.1.obx
          have htm6 := hX46.ob htm4 hkt (oNe rfl) rfl
          have hH6 : AhIs S6 K la9 ah (cl + 1) A2 := (hH4.xg hX46).lae hE9 (fun x hx => ((DqK.of (cl := cl + 1) hw2 (by omega)).idR hx).2) (fun j x _ hx => ((DqK.of (cl := cl + 1) hw2 (by omega)).mk hx).2)
          have hx6 := hL6.1.obx
          have kmk : KoM K mk := hK mk hO2.1.1
          have hm2 := hO2.1.2.1
          have h482 : Fi S2 48 mk (oAct o.1) := hO2.1.2.2.2.2.2.1
          have hm6 := hX46.ob ((hX24.ob hm2 kmk (oNe rfl) rfl).1) kmk (oNe rfl) rfl
          have h486 := hX46.fi ((hX24.ob hm2 kmk (oNe rfl) rfl).1) kmk (oNe rfl) rfl (hX24.fi hm2 kmk (oNe rfl) rfl h482 (by decide)) (by decide)
          have hds6 : ∀ q ∈ ds2, DqK A9.2.2.2.2.2.2.1 q := fun q hq => (hds2 q hq).up hn91
          refine BW.stiV rfl rfl (by simp only [List.set, List.all_cons, List.all_nil, g7]; rfl) ?_
          (repeat (refine BW.pl rfl rfl ?_))
          refine CW.e1 rfl rfl (by first | exact Or.inl rfl | exact Or.inr (tagO (by assumption) (by rfl) (by rfl))) (by first | exact Or.inl (by decide) | exact Or.inr ⟨_, rfl, by assumption⟩) rfl (L_isDeed (od := o.1) hm6 h486) ?_
          have at62 : ∀ (S7 : BS) (ds7 : List SDeed) (cap7 : Nat), cap2 ≤ cap7 → cap7 ≤ 100 → LO S7 K la9 A9 (B + 979 + 3680 * c + 480 * (A2.2.2.2.1.length - A.2.2.2.1.length) + 6 * cap7 + 3200 + 3154 * (c9 - (c + 1)) + 480 * (A9.2.2.2.1.length - A2.2.2.2.1.length)) → DsI S7 K la9 ds7 cap7 → RsI S7 K tp sc → Fi S7 11 (K 1) ((cl + 1 : Nat) : Int) → Fi S7 12 (K 1) ((0 : Nat) : Int) → Fi S7 13 (K 1) (c9 : Int) → OrsIs S7 F zz q os → Ob S7 tm (oTm Mm) → (∀ q ∈ ds7, DqK A9.2.2.2.2.2.2.1 q) → ds7.length ≤ 40 → sAllF os (cl + 1) N j9 c9 (done + 1) A9 ds7 = RES → BW (d + 192) gm_X1_doAll 62 [some (aR (K 1)), some (aR q), some (aR tm), some (aI done), some (aI j9), some (aR mk), some (aR ah), v7] [] S7 (fun r S' => ∃ v, r = .inl v ∧ ∃ la', v = vI RES.1 ∧ PwI S' K la' tp sc RES.2.2.1 RES.2.2.2 (cl + 1) RES.2.1 (B + 296000)) := by
            intro S7 ds7 cap7 hc27 hc7 hL7 hD7 hR7 h117 h127 h137 hOs7 htm7 hds7 hdl7 hres7
            refine BW.incV rfl rfl rfl (by simp only [List.all_cons, List.all_nil, g7]; rfl) ?_
            (iterate 1 (refine BW.pl rfl rfl ?_))
            have e4 : (done : Int) + 1 = ((done + 1 : Nat) : Int) := by omega
            show BW (d + 192) gm_X1_doAll 22 [some (aR (K 1)), some (aR q), some (aR tm), some (aI ((done : Int) + 1)), some (aI j9), some (aR mk), some (aR ah), v7] [] S7 _
            rw [e4]
            exact ih j9 c9 (done + 1) A9 ds7 la9 cap7 S7 _ _ _ rfl rfl g7 (by omega) (by omega) hc92 (by omega) hj9 hw9 (by omega) hds7 hdl7 hc7 (hL7.le (by omega) (by omega)) (by omega) hD7 hR7 h117 h127 h137 hOs7 htm7 hres7
          by_cases zd : isDeedA (oAct o.1) = true
          · rw [if_pos zd] at hR9 ⊢
            refine BW.br rfl rfl (by first | omega | decide | (constructor <;> first | omega | decide)) (fun w5 => by first | (exfalso; omega) | exact absurd w5 (by decide)) (fun w5 => ?_)
            obtain ⟨hka6, hah6, ⟨dm, h236, hDm⟩, -⟩ := id hH6
            (repeat (first | (refine BW.pl rfl rfl ?_) | (refine CW.geti rfl rfl (by assumption) rfl rfl (by assumption) (fun _ => ?_)) | (refine CW.getr rfl rfl (by assumption) rfl rfl (by assumption) ?_)))
            refine CW.c2 rfl rfl (by first | exact Or.inl rfl | exact Or.inr (tagO (by assumption) (by rfl) (by rfl))) (by first | exact Or.inl (by decide) | exact Or.inr ⟨_, rfl, by assumption⟩) rfl (L_keepDeed (d := d + 187) hL6 hD6 hdl2 hDm hcap2) ?_
            rintro r S7 ⟨rfl, cap7, hc27, hc7, hD7, hF7⟩
            have h10 : ∃ xs, Ob S6 (K 10) (oAd xs cap2) := by obtain ⟨xs, z, _⟩ := hD6; exact ⟨xs, z⟩
            obtain ⟨xs10, h10⟩ := h10
            have sk1 : Sep S6 (fun k => k = K 10) (K 1) := hL6.1.inj (by decide) (by decide) (by decide)
            have e6x := hx6.old (oNe rfl)
            have hL7 := (hL6.frK hF7 h10 (oNe rfl) rfl hL6.1.ne10 (by omega)).le (B' := B + 979 + 3680 * c + 480 * (A2.2.2.2.1.length - A.2.2.2.1.length) + 6 * cap7 + 3200 + 3154 * (c9 - (c + 1)) + 480 * (A9.2.2.2.1.length - A2.2.2.2.1.length)) (by omega) (by omega)
            have hko10 : ∀ m, F m → m ≠ K 10 := fun m hm => hK m hm 10 (by decide)
            exact at62 S7 _ cap7 hc27 hc7 hL7 hD7 (hR6.f10 hF7 h10 rfl hL6.1) (h116.fr hF7 ⟨⟨e6x, by decide⟩, sk1⟩) (h126.fr hF7 ⟨⟨e6x, by decide⟩, sk1⟩) (h136.fr hF7 ⟨⟨e6x, by decide⟩, sk1⟩) (hOs6.fr hF7 ⟨NoS.one h10 rfl, fun m hw hm => hko10 m hm hw⟩) (htm6.fr hF7 ⟨oNe rfl, fun z => hkt 10 (by decide) z⟩) (fun q hq => by
              rcases keepD_mem hq with z | z
              · exact hds6 q z
              · rw [z]; exact (DqK.of (cl := cl + 1) hw2 (by omega)).up hn91) (keepD_len hdl2) hR9
          · rw [if_neg zd] at hR9 ⊢
            refine BW.br rfl rfl (by first | omega | decide | (constructor <;> first | omega | decide)) (fun w5 => ?_) (fun w5 => by first | (exfalso; omega) | exact absurd w5 (by decide))
            exact at62 S6 ds2 cap2 (Nat.le_refl _) hcap2 (hL6.le (by omega) (by omega)) hD6 hR6 h116 h126 h136 hOs6 htm6 hds6 hdl2 hR9
  exact loop 61 0 0 0 (setR A false) ds la cap0 S5 none none none rfl rfl rfl (by omega) (Nat.le_refl _) (by omega) (Nat.le_refl _) (by omega) hwR (by rw [hnR]; omega) (by rw [hnR]; exact hds) hdl hcap0 (hL5.le (by rw [hoR]; omega) (by rw [hoR]; omega)) (by rw [hoR]; exact Nat.le_refl _) hD5 hR5 h115 h125 h135' hOs5 htm5 hres
end DA
