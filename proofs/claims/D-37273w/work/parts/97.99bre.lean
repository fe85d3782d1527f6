-- C
set_option maxRecDepth 100000
/-! LINEORDERS: replace -/
section RE
variable {d n m q i a y cap c1 c2 cap' p B c k f e l u w yp pp it lr : Nat} {S S' S0 S1 S2 : BS} {K : Nat → Nat} {la : Int → Nat} {G : BG} {F V : Nat → Prop} {s s2 z z2 row : List Int} {v nn : Int} {dn rs : List SLine} {r : Option Nat} {Q : GO → BS → Prop} {od : SOrd0} {pt : SPat} {b g : MG} {o : Obj}
theorem LC.fnd (hC : LC S0 S K la p G B it lr dn rs V) (hK : ∀ m, F m → KoM K m) (hS : Scr S S') (hR : FnR S F S') : LC S0 S' K la p G B it lr dn rs V ∧ XF K V S S' := by
  obtain ⟨mc, hT, hit⟩ := hC.2.1
  have hX : XF K V S S' := XF.rf.scr hS
  refine ⟨hC.frW (c := 0) hR (fun m hm hw => ⟨hK m hw.1, ?_⟩) (fun hw => ?_) hX hC.big.2, hX⟩
  · rcases hw.2 with z | z
    · exact ⟨fun y => by rw [y] at z; exact absurd (show (11 : Nat) = 9 from z) (by decide), fun y => by rw [y] at z; exact absurd z (by decide)⟩
    · rw [z]
      exact ⟨ownNe rfl, fun z => absurd (show (11 : Nat) = 1 from z) (by decide)⟩
  · rcases hw.2 with z | z
    · rw [show S.1 it = _ from hit] at z; exact absurd (show (5 : Nat) = 9 from z) (by decide)
    · rw [show S.1 it = _ from hit] at z; exact absurd z (oNe rfl)
theorem LC.mdC (hC : LC S0 S K la p G B it lr dn rs V) (hm : Ob S (K 15) (oSb z cap)) (hF : Fr1 S S' (K 15) (3 * (cap' - cap))) (hm2 : Ob S' (K 15) (oSb z2 cap')) (h1 : cap ≤ cap') (h2 : cap' = cap ∨ cap' ≤ 2 * z2.length) (hl : z2.length < 29990) : LC S0 S' K la p G B it lr dn rs V ∧ XF K V S S' := by
  have hX : XF K V S S' := XF.rf.f1 hF (fun _ => hC.lb.wk (by decide))
  have hcap : cap ≤ 60000 := by
    obtain ⟨z', cp, a1, a2⟩ := hC.lb.made
    have e1 : oSb z' cp = oSb z cap := a1.symm.trans hm
    have : cp = cap := congrArg (fun o : Obj => o.2.2.2.1) e1
    omega
  have hF0 : Fr1 S S' (K 15) (0 + 3 * (cap' - cap)) := by rw [Nat.zero_add]; exact hF
  exact ⟨hC.to (hC.lb.setMade hm hF0 LoX.k hm2 h1 (by omega) hC.big.2) rfl hF hm (oNe rfl) rfl rfl rfl hX, hX⟩
theorem FndIs.fr1 (h : FndIs S p pt y a e b g) (hp : Ob S p (oOwn 9)) (hm : Ob S m o) (h9 : (o.1 == 9) = false) (ho : o ≠ oOwn 9) (hF : Fr1 S S' m c) : FndIs S' p pt y a e b g := by
  obtain ⟨h1, h2, h3, u, w, us, ws, h4, h5, ⟨g1, g2, g3, g4⟩, h6⟩ := h
  have hs : S.1 p ≠ oNil ∧ True := ⟨hp.old (oNe rfl), trivial⟩
  have sp : Sep S (fun k => k = m) p := hp.ne hm (fun z => ho z.symm)
  have ia : ∀ us, oIa us ≠ o := fun us z => by rw [← z] at h9; cases h9
  exact ⟨h1.fr hF ⟨⟨hs.1, by decide⟩, sp⟩, h2.fr hF ⟨⟨hs.1, by decide⟩, sp⟩, h3.fr hF ⟨⟨hs.1, by decide⟩, sp⟩, u, w, us, ws, h4.fr hF ⟨⟨hs.1, by decide⟩, sp⟩, h5.fr hF ⟨⟨hs.1, by decide⟩, sp⟩, ⟨g1.fr hF ⟨oNe rfl, g1.ne hm (ia us)⟩, g2, g3.fr hF ⟨oNe rfl, g3.ne hm (ia ws)⟩, g4⟩, h6⟩
theorem L_replace (hC : LC S0 S K la p G B it lr dn rs V) (hK : ∀ m, F m → KoM K m) (hq : Ob S q (oOwn 7)) (kq : KoM K q) (h49 : Fi S 49 q (oNum od)) (h52 : Fe S 52 q (some pp)) (hP : PatIs S F pp (oPat od)) (h53 : Fe S 53 q (some yp)) (hyp : Ob S yp (oStr (oPut od))) (h55 : Fi S 55 q (b2i (oEac od))) (hpk : PatK (oPat od)) (hok : putOk c (oPut od)) (hcl : clo 0 (oPat od).1 = c) (hc : c ≤ 2) (hnm : 1 ≤ oNum od ∧ oNum od ≤ 99) (hpl : (oPut od).length ≤ 21) (hm : Ob S (K 15) (oSb [] cap)) (hy : Ob S y (oStr row)) (hrl : row.length ≤ 30) : BMr (d + 181) gk_X1_replace [aR (K 1), aR q, aR y] S (fun r S' => r = none ∧ LC S0 S' K la p (setRG G (G.2.2.2.2.2 || (sRepl od row).2)) B it lr dn rs V ∧ XF K V S S' ∧ (sRepl od row).1.length < 28990 ∧ ∃ cap', Ob S' (K 15) (oSb (sRepl od row).1 cap')) := by
  have hx := hC.lb.obx
  have hp0 : Ob S pp (oOwn 9) ∧ KoM K pp := by obtain ⟨q, cap, xs, u, w, us, ws, ⟨f1, _⟩, h, _⟩ := hP; exact ⟨h, hK _ f1⟩
  obtain ⟨hp, kp⟩ := hp0
  refine BM.of rfl rfl rfl ?_
  let J : BS → Bool → List Int → Prop := fun S2 is made => LC S0 S2 K la p (setRG G (G.2.2.2.2.2 || is)) B it lr dn rs V ∧ XF K V S S2 ∧ ∃ c1, Ob S2 (K 15) (oSb made c1)
  let PO : GO → BS → Prop := fun r S' => ∃ v, r = .inl v ∧ (v = none ∧ LC S0 S' K la p (setRG G (G.2.2.2.2.2 || (sRepl od row).2)) B it lr dn rs V ∧ XF K V S S' ∧ (sRepl od row).1.length < 28990 ∧ ∃ cap', Ob S' (K 15) (oSb (sRepl od row).1 cap'))
  let Res : List Int × Nat × Bool → List Int × Bool := fun w => match w with
    | (made, from', is) => if is = true then (made ++ row.drop from', true) else (row, false)
  have fac : ∀ S2, XF K V S S2 → Ob S2 q (oOwn 7) ∧ Fi S2 49 q (oNum od) ∧ Fe S2 52 q (some pp) ∧ Fe S2 53 q (some yp) ∧ Ob S2 yp (oStr (oPut od)) ∧ Fi S2 55 q (b2i (oEac od)) ∧ Ob S2 y (oStr row) ∧ Ob S2 pp (oOwn 9) ∧ PatIs S2 F pp (oPat od) := fun S2 hX => ⟨(hX.ob hq kq (oNe rfl) rfl).1, hX.fi hq kq (oNe rfl) rfl h49 (by decide), hX.fe hq kq (oNe rfl) rfl h52 (by decide), hX.fe hq kq (oNe rfl) rfl h53 (by decide), hX.2.2 _ _ hyp, hX.fi hq kq (oNe rfl) rfl h55 (by decide), hX.2.2 _ _ hy, (hX.ob hp kp (oNe rfl) rfl).1, hP.xf hX hK⟩
  -- the end
  have last : ∀ (S2 : BS) (made : List Int) (fr : Nat) (is : Bool) (f : Int), J S2 is made → fr ≤ row.length → made.length < 28900 → Res (made, fr, is) = sRepl od row → (is = false → made = [] ∧ fr = 0) → BW (d + 180) gm_X1_replace 13 [some (aR (K 1)), some (aR q), some (aR y), some (aR pp), some (aI fr), some (aI f), some (aI 0)] [] S2 PO := by
    rintro S2 made fr is f ⟨hC2, hX2, c1, hm2⟩ hfr hml he his
    obtain ⟨q2, q49, q52, q53, qyp, q55, hy2, hp2, hP2⟩ := fac S2 hX2
    have hx2 := hC2.lb.obx
    have h152 : Fe S2 15 (K 1) (some (K 15)) := hC2.lb.fe (by decide)
    (repeat (refine BW.pl rfl rfl ?_))
    refine BW.br rfl rfl (by first | omega | decide | (constructor <;> first | omega | decide)) (fun w => ?_) (fun w => by first | (exfalso; omega) | exact absurd w (by decide))
    (repeat (refine BW.pl rfl rfl ?_))
    refine CW.e1 rfl rfl (by first | exact Or.inl rfl | exact Or.inr (tagO (by assumption) (by rfl) (by rfl))) (by first | exact Or.inl (by decide) | exact Or.inr ⟨_, rfl, by assumption⟩) rfl (B_slen hy2) ?_
    refine CW.c4 rfl rfl (by first | exact Or.inl rfl | exact Or.inr (tagO (by assumption) (by rfl) (by rfl))) (by first | exact Or.inl (by decide) | exact Or.inr ⟨_, rfl, by assumption⟩) rfl (L_makeSigns (f := fr) (e := row.length) hx2 h152 hm2 hy2 hfr (Nat.le_refl _) (by omega) rfl rfl) ?_
    rintro r S3 ⟨rfl, c2, hm3, hF3, k3, k4⟩
    rw [List.take_of_length_le (by rw [List.length_drop]; omega)] at hm3
    have hlz : (made ++ row.drop fr).length = made.length + (row.length - fr) := by rw [List.length_append, List.length_drop]
    obtain ⟨hC3, hX3⟩ := hC2.mdC hm2 hF3 hm3 k3 (by omega) (by omega)
    refine BW.ret rfl rfl ⟨_, rfl, rfl, ?_⟩
    rw [← he]
    cases is with
    | true => exact ⟨hC3, hX2.tr hX3, by show (made ++ row.drop fr).length < 28990; omega, c2, hm3⟩
    | false =>
      obtain ⟨rfl, rfl⟩ := his rfl
      exact ⟨hC3, hX2.tr hX3, by show row.length < 28990; omega, c2, hm3⟩
  -- it goes on behind a find
  have next : ∀ (S2 : BS) (made : List Int) (fr e : Nat) (is : Bool) (f : Int), J S2 is made → Fi S2 73 pp e → e ≤ row.length → (∀ S3, J S3 is made → match mNext (oPat od) row e with
      | none => BW (d + 180) gm_X1_replace 13 [some (aR (K 1)), some (aR q), some (aR y), some (aR pp), some (aI fr), some (aI f), some (aI 0)] [] S3 PO
      | some (a1, e1, b1, g1) => FndIs S3 pp (oPat od) y a1 e1 b1 g1 → BW (d + 180) gm_X1_replace 13 [some (aR (K 1)), some (aR q), some (aR y), some (aR pp), some (aI fr), some (aI f), some (aI 1)] [] S3 PO) → BW (d + 180) gm_X1_replace 45 [some (aR (K 1)), some (aR q), some (aR y), some (aR pp), some (aI fr), some (aI f), some (aI 1)] [] S2 PO := by
    rintro S2 made fr e is f ⟨hC2, hX2, c1, hm2⟩ h73 hel cont
    obtain ⟨q2, q49, q52, q53, qyp, q55, hy2, hp2, hP2⟩ := fac S2 hX2
    (repeat (first | (refine BW.pl rfl rfl ?_) | (refine CW.geti rfl rfl (by assumption) rfl rfl (by assumption) (fun _ => ?_)) | (refine CW.getr rfl rfl (by assumption) rfl rfl (by assumption) ?_)))
    refine CW.c4 rfl rfl (by first | exact Or.inl rfl | exact Or.inr (tagO (by assumption) (by rfl) (by rfl))) (by first | exact Or.inl (by decide) | exact Or.inr ⟨_, rfl, by assumption⟩) rfl (P_find (at' := e) hP2 hpk hy2 (by omega) rfl hel ⟨by omega, by omega⟩) ?_
    rintro v S3 ⟨⟨hS, hR⟩, hP3, hq3⟩
    obtain ⟨hC3, hX3⟩ := hC2.fnd hK hS hR
    have hm3 : Ob S3 (K 15) (oSb made c1) := hm2.fr hR ⟨oNe rfl, fun w => (hK _ w.1) 15 (by decide) rfl⟩
    have hQ := cont S3 ⟨hC3, hX2.tr hX3, c1, hm3⟩
    rw [fF_next hpk.1 hel] at hq3
    revert hq3 hQ
    cases mNext (oPat od) row e with
    | none =>
      intro hq3 hQ
      have hq3 : v = vI 0 := hq3
      subst hq3
      refine BW.br rfl rfl (by first | omega | decide | (constructor <;> first | omega | decide)) (fun w => ?_) (fun w => by first | (exfalso; omega) | exact absurd w (by decide))
      (iterate 3 (refine BW.pl rfl rfl ?_))
      exact hQ
    | some z =>
      obtain ⟨a1, e1, b1, g1⟩ := z
      rintro ⟨rfl, hf3⟩ hQ
      refine BW.br rfl rfl (by first | omega | decide | (constructor <;> first | omega | decide)) (fun w => by first | (exfalso; omega) | exact absurd w (by decide)) (fun w => ?_)
      (iterate 4 (refine BW.pl rfl rfl ?_))
      exact hQ hf3
  have loop : ∀ (k a e : Nat) (b g : MG) (f fr : Nat) (made : List Int) (is : Bool) (S2 : BS), J S2 is made → FndIs S2 pp (oPat od) y a e b g → GOk c false b g e → fr ≤ a → a ≤ e → e ≤ row.length → 40 ≤ k + e → k ≤ 40 → f ≤ 40 - k → (oEac od = false → (f : Int) < oNum od) → made.length ≤ 720 * (40 - k) → (is = false → made = [] ∧ fr = 0) → Res (sReplF od row k (some (a, e, b, g)) f fr made is) = sRepl od row → BW (d + 180) gm_X1_replace 13 [some (aR (K 1)), some (aR q), some (aR y), some (aR pp), some (aI fr), some (aI f), some (aI 1)] [] S2 PO := by
    intro k
    induction k with
    | zero => intro a e b g f fr made is S2 hJ hf hgo hfa hae hel hk; omega
    | succ k ih =>
      rintro a e b g f fr made is S2 ⟨hC2, hX2, c1, hm2⟩ hf hgo hfa hae hel hk hk40 hfk hfw hml his he
      obtain ⟨q2, q49, q52, q53, qyp, q55, hy2, hp2, hP2⟩ := fac S2 hX2
      have hx2 := hC2.lb.obx
      have h152 : Fe S2 15 (K 1) (some (K 15)) := hC2.lb.fe (by decide)
      have h72 := hf.2.1
      have h73 := hf.2.2.1
      have e0 : sReplF od row (k + 1) (some (a, e, b, g)) f fr made is = if oEac od = true then sReplF od row k (mNext (oPat od) row e) (f + 1) e (made ++ (row.drop fr).take (a - fr) ++ sPut row a e b g (oPut od)) true
        else if ((f : Nat) : Int) + 1 = oNum od then (made ++ (row.drop fr).take (a - fr) ++ sPut row a e b g (oPut od), e, true)
        else sReplF od row k (mNext (oPat od) row e) (f + 1) fr made is := rfl
      rw [e0] at he
      have hN := mNext_ok (row := row) (e0 := e) hpk.1 hel
      -- on to the next find
      have on : ∀ (S3 : BS) (made' : List Int) (fr' : Nat) (is' : Bool), J S3 is' made' → Fi S3 73 pp e → fr' ≤ e → (oEac od = false → ((f + 1 : Nat) : Int) < oNum od) → made'.length ≤ 720 * (40 - k) → (is' = false → made' = [] ∧ fr' = 0) → Res (sReplF od row k (mNext (oPat od) row e) ((f + 1 : Nat) : Int) fr' made' is') = sRepl od row → BW (d + 180) gm_X1_replace 45 [some (aR (K 1)), some (aR q), some (aR y), some (aR pp), some (aI fr'), some (aI ((f + 1 : Nat) : Int)), some (aI 1)] [] S3 PO := by
        intro S3 made' fr' is' hJ3 h733 hfe hfw3 hml3 his3 he3
        refine next S3 made' fr' e is' _ hJ3 h733 hel (fun S4 hJ4 => ?_)
        have hgt := fun a1 e1 b1 g1 (hh : mNext (oPat od) row e = some (a1, e1, b1, g1)) (z : a1 ≤ e1) => mNext_gt hh z
        revert he3 hN hgt
        cases mNext (oPat od) row e with
        | none =>
          intro hN he3 hgt
          have he3 : Res (made', fr', is') = sRepl od row := by
            rw [← he3]
            cases k <;> rfl
          exact last S4 made' fr' is' _ hJ4 (by omega) (by omega) he3 his3
        | some z =>
          obtain ⟨a1, e1, b1, g1⟩ := z
          intro hN he3 hgt hf4
          obtain ⟨n1, n2, n3, n4⟩ := hN a1 e1 b1 g1 rfl
          have := hgt a1 e1 b1 g1 rfl n3
          rw [hcl] at n1
          exact ih a1 e1 b1 g1 (f + 1) fr' made' is' S4 hJ4 hf4 n1 (by omega) n3 n4 (by omega) (by omega) (by omega) hfw3 hml3 his3 he3
      -- a find is put
      have hpu := sPut_len (c := c) (row := row) (a := a) (e := e) (b := b) (g := g) (oPut od).length (oPut od) (Nat.le_refl _)
      have hpu2 : row.length * (oPut od).length ≤ 30 * 21 := Nat.mul_le_mul hrl hpl
      have hlz1 : (made ++ (row.drop fr).take (a - fr)).length = made.length + (a - fr) := by rw [List.length_append, List.length_take, List.length_drop]; omega
      have puts : (∀ S5, J S5 true (made ++ (row.drop fr).take (a - fr) ++ sPut row a e b g (oPut od)) → Fi S5 73 pp e → (made ++ (row.drop fr).take (a - fr) ++ sPut row a e b g (oPut od)).length ≤ 720 * (40 - k) → BW (d + 180) gm_X1_replace 38 [some (aR (K 1)), some (aR q), some (aR y), some (aR pp), some (aI e), some (aI ((f + 1 : Nat) : Int)), some (aI 1)] [] S5 PO) → BW (d + 180) gm_X1_replace 23 [some (aR (K 1)), some (aR q), some (aR y), some (aR pp), some (aI fr), some (aI ((f + 1 : Nat) : Int)), some (aI 1)] [] S2 PO := by
        intro cont
        (repeat (first | (refine BW.pl rfl rfl ?_) | (refine CW.geti rfl rfl (by assumption) rfl rfl (by assumption) (fun _ => ?_)) | (refine CW.getr rfl rfl (by assumption) rfl rfl (by assumption) ?_)))
        refine CW.c4 rfl rfl (by first | exact Or.inl rfl | exact Or.inr (tagO (by assumption) (by rfl) (by rfl))) (by first | exact Or.inl (by decide) | exact Or.inr ⟨_, rfl, by assumption⟩) rfl (L_makeSigns (f := fr) (e := a) hx2 h152 hm2 hy2 hfa (by omega) (by omega) rfl rfl) ?_
        rintro r S3 ⟨rfl, c2, hm3, hF3, k3, k4⟩
        obtain ⟨hC3, hX23⟩ := hC2.mdC hm2 hF3 hm3 k3 (by omega) (by omega)
        have hX3 := hX2.tr hX23
        obtain ⟨q3, q349, q352, q353, q3yp, q355, hy3, hp3, hP3⟩ := fac S3 hX3
        have hx3 := hC3.lb.obx
        have h153 : Fe S3 15 (K 1) (some (K 15)) := hC3.lb.fe (by decide)
        have hf3 := hf.fr1 hp2 hm2 rfl (oNe rfl) hF3
        (iterate 2 (refine BW.pl rfl rfl ?_))
        refine CW.c2 rfl rfl (by first | exact Or.inl rfl | exact Or.inr (tagO (by assumption) (by rfl) (by rfl))) (by first | exact Or.inl (by decide) | exact Or.inr ⟨_, rfl, by assumption⟩) rfl (L_put hx3 h153 hm3 q3 q352 q353 q3yp hp3 hf3 hy3 hcl hc hok hgo hae hel hrl (by omega)) ?_
        rintro r S4 ⟨rfl, c3, hm4, hF4, k5, k6⟩
        have hlz2 : (made ++ (row.drop fr).take (a - fr) ++ sPut row a e b g (oPut od)).length = made.length + (a - fr) + (sPut row a e b g (oPut od)).length := by rw [List.length_append, hlz1]
        obtain ⟨hC4, hX34⟩ := hC3.mdC hm3 hF4 hm4 k5 k6 (by omega)
        have hX4 := hX3.tr hX34
        obtain ⟨q4, q449, q452, q453, q4yp, q455, hy4, hp4, hP4⟩ := fac S4 hX4
        have hx4 := hC4.lb.obx
        have hf4 := hf3.fr1 hp3 hm3 rfl (oNe rfl) hF4
        have h734 := hf4.2.2.1
        (repeat (first | (refine BW.pl rfl rfl ?_) | (refine CW.geti rfl rfl (by assumption) rfl rfl (by assumption) (fun _ => ?_)) | (refine CW.getr rfl rfl (by assumption) rfl rfl (by assumption) ?_)))
        first | (refine CW.putr rfl rfl (by assumption) rfl (by decide) (fun S5 hP5 h14 => ?_)) | (refine CW.puti rfl (by assumption) rfl (by decide) (by first | exact Or.inl ⟨rfl, by first | omega | decide | (constructor <;> first | omega | decide)⟩ | exact Or.inr (Or.inl ⟨rfl, by first | omega | decide | (constructor <;> first | omega | decide)⟩) | exact Or.inr (Or.inr (Or.inl ⟨rfl, by first | omega | decide | (constructor <;> first | omega | decide)⟩)) | exact Or.inr (Or.inr (Or.inr ⟨rfl, by first | omega | decide | (constructor <;> first | omega | decide)⟩))) (fun S5 hP5 h14 => ?_))
        have hX45 : XF K V S4 S5 := XF.rf.pu1 hP5 (by decide)
        have hC5 := hC4.to (hC4.lb.puR (b := true) hP5 h14 rfl) rfl hP5.fr hx4 (ownNe rfl) rfl rfl rfl hX45
        have eb : (G.2.2.2.2.2 || true) = true := Bool.or_true _
        refine cont S5 ⟨?_, hX4.tr hX45, c3, hm4.pu hP5 trivial⟩ (h734.pu hP5 (Or.inl (by decide))) (by omega)
        rw [eb]
        exact hC5
      have ef1 : ((f : Nat) : Int) + 1 = ((f + 1 : Nat) : Int) := by omega
      (iterate 1 (refine BW.pl rfl rfl ?_))
      refine BW.br rfl rfl (by first | omega | decide | (constructor <;> first | omega | decide)) (fun w => by first | (exfalso; omega) | exact absurd w (by decide)) (fun w => ?_)
      by_cases hE : oEac od = true
      · rw [if_pos hE] at he
        have q55e : Fi S2 55 q 1 := by rw [hE] at q55; exact q55
        (iterate 1 (refine BW.pl rfl rfl ?_))
        rw [ef1]
        (repeat (first | (refine BW.pl rfl rfl ?_) | (refine CW.geti rfl rfl (by assumption) rfl rfl (by assumption) (fun _ => ?_)) | (refine CW.getr rfl rfl (by assumption) rfl rfl (by assumption) ?_)))
        refine BW.br rfl rfl (by first | omega | decide | (constructor <;> first | omega | decide)) (fun w2 => ?_) (fun w2 => by first | (exfalso; omega) | exact absurd w2 (by decide))
        refine puts (fun S5 hJ5 h735 hl5 => ?_)
        obtain ⟨q5, _, _, _, _, q555, _⟩ := fac S5 hJ5.2.1
        rw [hE] at q555
        have q555 : Fi S5 55 q 1 := q555
        (repeat (first | (refine BW.pl rfl rfl ?_) | (refine CW.geti rfl rfl (by assumption) rfl rfl (by assumption) (fun _ => ?_)) | (refine CW.getr rfl rfl (by assumption) rfl rfl (by assumption) ?_)))
        refine BW.br rfl rfl (by first | omega | decide | (constructor <;> first | omega | decide)) (fun w3 => ?_) (fun w3 => by first | (exfalso; omega) | exact absurd w3 (by decide))
        exact on S5 _ e true hJ5 h735 (Nat.le_refl _) (fun z => by rw [hE] at z; cases z) hl5 (fun z => by cases z) he
      · rw [if_neg hE] at he
        have hE : oEac od = false := by cases h : oEac od with | true => exact absurd h hE | false => rfl
        have hfw := hfw hE
        have q55e : Fi S2 55 q 0 := by rw [hE] at q55; exact q55
        (iterate 1 (refine BW.pl rfl rfl ?_))
        rw [ef1]
        (repeat (first | (refine BW.pl rfl rfl ?_) | (refine CW.geti rfl rfl (by assumption) rfl rfl (by assumption) (fun _ => ?_)) | (refine CW.getr rfl rfl (by assumption) rfl rfl (by assumption) ?_)))
        refine BW.br rfl rfl (by first | omega | decide | (constructor <;> first | omega | decide)) (fun w2 => by first | (exfalso; omega) | exact absurd w2 (by decide)) (fun w2 => ?_)
        (repeat (first | (refine BW.pl rfl rfl ?_) | (refine CW.geti rfl rfl (by assumption) rfl rfl (by assumption) (fun _ => ?_)) | (refine CW.getr rfl rfl (by assumption) rfl rfl (by assumption) ?_)))
        by_cases z1 : ((f : Nat) : Int) + 1 = oNum od
        · rw [if_pos z1] at he
          refine BW.br rfl rfl (by first | omega | decide | (constructor <;> first | omega | decide)) (fun w3 => by first | (exfalso; omega) | exact absurd w3 (by decide)) (fun w3 => ?_)
          refine puts (fun S5 hJ5 h735 hl5 => ?_)
          obtain ⟨q5, q549, _, _, _, q555, _⟩ := fac S5 hJ5.2.1
          rw [hE] at q555
          have q555 : Fi S5 55 q 0 := q555
          (repeat (first | (refine BW.pl rfl rfl ?_) | (refine CW.geti rfl rfl (by assumption) rfl rfl (by assumption) (fun _ => ?_)) | (refine CW.getr rfl rfl (by assumption) rfl rfl (by assumption) ?_)))
          refine BW.br rfl rfl (by first | omega | decide | (constructor <;> first | omega | decide)) (fun w4 => by first | (exfalso; omega) | exact absurd w4 (by decide)) (fun w4 => ?_)
          (repeat (first | (refine BW.pl rfl rfl ?_) | (refine CW.geti rfl rfl (by assumption) rfl rfl (by assumption) (fun _ => ?_)) | (refine CW.getr rfl rfl (by assumption) rfl rfl (by assumption) ?_)))
          refine BW.br rfl rfl (by first | omega | decide | (constructor <;> first | omega | decide)) (fun w5 => ?_) (fun w5 => by first | (exfalso; omega) | exact absurd w5 (by decide))
          (iterate 3 (refine BW.pl rfl rfl ?_))
          exact last S5 _ e true _ hJ5 hel (by omega) he (fun z => by cases z)
        · rw [if_neg z1] at he
          refine BW.br rfl rfl (by first | omega | decide | (constructor <;> first | omega | decide)) (fun w3 => ?_) (fun w3 => by first | (exfalso; omega) | exact absurd w3 (by decide))
          (repeat (first | (refine BW.pl rfl rfl ?_) | (refine CW.geti rfl rfl (by assumption) rfl rfl (by assumption) (fun _ => ?_)) | (refine CW.getr rfl rfl (by assumption) rfl rfl (by assumption) ?_)))
          refine BW.br rfl rfl (by first | omega | decide | (constructor <;> first | omega | decide)) (fun w4 => by first | (exfalso; omega) | exact absurd w4 (by decide)) (fun w4 => ?_)
          (repeat (first | (refine BW.pl rfl rfl ?_) | (refine CW.geti rfl rfl (by assumption) rfl rfl (by assumption) (fun _ => ?_)) | (refine CW.getr rfl rfl (by assumption) rfl rfl (by assumption) ?_)))
          refine BW.br rfl rfl (by first | omega | decide | (constructor <;> first | omega | decide)) (fun w5 => by first | (exfalso; omega) | exact absurd w5 (by decide)) (fun w5 => ?_)
          exact on S2 made fr is ⟨hC2, hX2, c1, hm2⟩ h73 (by omega) (fun _ => by omega) (by omega) his he
  (repeat (first | (refine BW.pl rfl rfl ?_) | (refine CW.geti rfl rfl (by assumption) rfl rfl (by assumption) (fun _ => ?_)) | (refine CW.getr rfl rfl (by assumption) rfl rfl (by assumption) ?_)))
  refine CW.c4 rfl rfl (by first | exact Or.inl rfl | exact Or.inr (tagO (by assumption) (by rfl) (by rfl))) (by first | exact Or.inl (by decide) | exact Or.inr ⟨_, rfl, by assumption⟩) rfl (P_find (at' := 0) hP hpk hy (by omega) rfl (Nat.zero_le _) ⟨by decide, by decide⟩) ?_
  rintro v S1 ⟨⟨hS, hR⟩, hP1, hq1⟩
  obtain ⟨hC1, hX1⟩ := hC.fnd hK hS hR
  have hm1 : Ob S1 (K 15) (oSb [] cap) := hm.fr hR ⟨oNe rfl, fun w => (hK _ w.1) 15 (by decide) rfl⟩
  have eG : setRG G (G.2.2.2.2.2 || false) = G := by rw [Bool.or_false]; rfl
  have hJ1 : J S1 false [] := ⟨by rw [eG]; exact hC1, hX1, cap, hm1⟩
  have e : fF (oPat od) row (-1) (row.length + 1 - 0) 0 = mFind (oPat od) row 0 := fF_find
  rw [e] at hq1
  have hN := mFind_ok (pt := oPat od) (row := row) (place := 0) hpk.1 (by omega)
  have he : Res (sReplF od row 40 (mFind (oPat od) row 0) 0 0 [] false) = sRepl od row := rfl
  revert hq1 hN he
  cases mFind (oPat od) row 0 with
  | none =>
    intro hq1 hN he
    have hq1 : v = vI 0 := hq1
    subst hq1
    (iterate 1 (refine BW.pl rfl rfl ?_))
    exact last S1 [] 0 false 0 hJ1 (Nat.zero_le _) (Nat.lt_of_lt_of_le (by decide) (Nat.le_refl 28900)) he (fun _ => ⟨rfl, rfl⟩)
  | some z =>
    obtain ⟨a1, e1, b1, g1⟩ := z
    rintro ⟨rfl, hf1⟩ hN he
    obtain ⟨n1, n2, n3, n4⟩ := hN a1 e1 b1 g1 rfl
    rw [hcl] at n1
    (iterate 1 (refine BW.pl rfl rfl ?_))
    exact loop 40 a1 e1 b1 g1 0 0 [] false S1 hJ1 hf1 n1 (by omega) n3 n4 (by omega) (Nat.le_refl _) (Nat.zero_le _) (fun _ => by omega) (Nat.zero_le _) (fun _ => ⟨rfl, rfl⟩) he
end RE
