set_option maxRecDepth 100000
/-! TREEMAP: fixAfterDeletion (printed by mkdel.py: its two halves are mirrored) -/
/-- p, in the tree of x, has no children -/
def Lf (pr : Prop) (x p : Int) (lo hi : Int → Int) (L R : Int → Option Int) : Prop := pr → lo x < p ∧ p < hi x ∧ L p = none ∧ R p = none
def TFd (pr : Prop) (p : Int) (g0 g : GH) (t : Nat) (K : Int → Prop) (N : Int → Nat) (ky : Int → Int) (vl : Int → Nat) : Prop := ∃ lo hi L R P rt, TFx g0 g t K N ky vl lo hi L R P rt ∧ (pr → L p = none ∧ R p = none)
section Td
variable {d : Nat} {g : GH} {t : Nat} {K : Int → Prop} {N : Int → Nat} {ky : Int → Int} {vl : Int → Nat} {lo hi : Int → Int} {L R P : Int → Option Int} {rt : Option Int} {pr : Prop} {p : Int}
theorem TLk.fT (h : TLk g t K N ky vl L R P rt) : gfr g 122 t = rt.map N := h.2.2.1
theorem Lf.rotL {x i j : Int} (H : TSh K lo hi L R P rt) (ki : K i) (hj : R i = some j) (xi : x ≠ i) (xj : x ≠ j) (hp : pr → p ≠ i ∧ p ≠ j) (h : Lf pr x p lo hi L R) : Lf pr x p (fun a => if a = j then lo i else lo a) (fun a => if a = i then j else hi a) (rlL L P i j) (rlR L R P i j) := by
  intro z
  obtain ⟨h1, h2, h3, h4⟩ := h z
  obtain ⟨p1, p2⟩ := hp z
  refine ⟨by dsimp only; rw [if_neg xj]; exact h1, by dsimp only; rw [if_neg xi]; exact h2, ?_, ?_⟩
  · unfold rlL; rw [if_neg p2, if_neg (fun y => by rw [h3] at y; cases y.2)]; exact h3
  · unfold rlR
    rw [if_neg p1, if_neg (fun y => by
      rcases ((H.2.2.2.2.1 i ki).2 p y.1).2 with w | w
      · rw [h3] at w; cases w
      · rw [h4] at w; cases w)]
    exact h4
theorem Lf.rotR {x i j : Int} (H : TSh K lo hi L R P rt) (ki : K i) (hj : L i = some j) (xi : x ≠ i) (xj : x ≠ j) (hp : pr → p ≠ i ∧ p ≠ j) (h : Lf pr x p lo hi L R) : Lf pr x p (fun a => if a = i then j else lo a) (fun a => if a = j then hi i else hi a) (rrL R L P i j) (rrR R P i j) := by
  intro z
  obtain ⟨h1, h2, h3, h4⟩ := h z
  obtain ⟨p1, p2⟩ := hp z
  refine ⟨by dsimp only; rw [if_neg xi]; exact h1, by dsimp only; rw [if_neg xj]; exact h2, ?_, ?_⟩
  · unfold rrL
    rw [if_neg p1, if_neg (fun y => by
      rcases ((H.2.2.2.2.1 i ki).2 p y.1).2 with w | w
      · rw [h3] at w; cases w
      · rw [h4] at w; cases w)]
    exact h3
  · unfold rrR; rw [if_neg p2, if_neg (fun y => by rw [h4] at y; cases y.2)]; exact h4
theorem clr_some {o : Option Int} (h : clr g N o = 0) : ∃ k, o = some k := by
  cases o with
  | none => cases h
  | some k => exact ⟨k, rfl⟩
theorem G_fixD {g0 : GH} (h : TFx g0 g t K N ky vl lo hi L R P rt) {x : Int} (kx : K x) (hlf : Lf pr x p lo hi L R) : GMr (d + 2) gk_J5_fixAfterDeletion [aR t, aR (N x)] g (fun r g' => r = none ∧ TFd pr p g0 g' t K N ky vl) := by
  -- the end: x gets black
  have ex : ∀ (g1 : GH) (x : Int) (y : Option GV) (lo hi : Int → Int) (L R P : Int → Option Int) (rt : Option Int), K x → TFx g0 g1 t K N ky vl lo hi L R P rt → (pr → L p = none ∧ R p = none) → GW (d + 1) gm_J5_fixAfterDeletion 171 [some (aR t), some (aR (N x)), y] [] g1 (fun r g' => ∃ v, r = .inl v ∧ v = none ∧ TFd pr p g0 g' t K N ky vl) := by
    intro g1 x y lo hi L R P rt kx h1 hl
    (repeat (refine GW.pl rfl rfl ?_))
    refine GW.c2 rfl rfl (by first | exact Or.inl rfl | exact Or.inr (grecv_at (by assumption)) | exact Or.inr (grecv_c (by assumption)) | exact Or.inr (grecv_c (SIs.cls (by assumption))) | exact Or.inr (grecv_at (BSb.at (by assumption)))) (by first | exact Or.inl (by decide) | exact Or.inr (gnewv_at (by assumption))) rfl (G_tmSC h1.2.2.1 (o := some x) (vld1 kx) (c := 1) (Or.inr rfl)) ?_
    rintro _ g2 ⟨rfl, q2⟩
    exact GW.ret rfl rfl ⟨_, rfl, rfl, lo, hi, L, R, P, rt, h1.col q2, hl⟩
  have er : ∀ (g1 : GH) (r : Int) (y : Option GV) (lo hi : Int → Int) (L R P : Int → Option Int) (rt : Option Int), rt = some r → TFx g0 g1 t K N ky vl lo hi L R P rt → (pr → L p = none ∧ R p = none) → GW (d + 1) gm_J5_fixAfterDeletion 0 [some (aR t), some (aR (N r)), y] [] g1 (fun r g' => ∃ v, r = .inl v ∧ v = none ∧ TFd pr p g0 g' t K N ky vl) := by
    intro g1 r y lo hi L R P rt hr h1 hl
    have kr := (h1.1.2.2.2.2.2.2 r hr).1
    have a3 := h1.2.2.1
    have nA := a3.nat kr
    (repeat (refine GW.pl rfl rfl ?_))
    refine GW.getr rfl rfl (GHas.at a3.1 rfl) a3.2.2.1 ?_
    rw [hr]
    refine GW.aeq rfl (gcan2_at nA rfl (gok_at nA rfl)) (fun _ => ?_) (fun z => absurd rfl z)
    exact ex _ _ _ _ _ _ _ _ _ kr (by rw [hr] at h1; exact h1) hl
  -- the last rotation, x on the left
  have b71 : ∀ (g1 : GH) (x i j : Int) (lo hi : Int → Int) (L R P : Int → Option Int) (rt : Option Int), K x → TFx g0 g1 t K N ky vl lo hi L R P rt → P x = some i → L i = some x → R i = some j → Lf pr x p lo hi L R → GW (d + 1) gm_J5_fixAfterDeletion 71 [some (aR t), some (aR (N x)), some (aR (N j))] [] g1 (fun r g' => ∃ v, r = .inl v ∧ v = none ∧ TFd pr p g0 g' t K N ky vl) := by
    intro g1 x i j lo hi L R P rt kx h1 hxi hix hij hlf
    have ki := h1.1.vP kx i hxi
    have kj := h1.1.vR ki j hij
    have bx := h1.1.1 x kx
    have cx := (h1.1.2.2.1 i ki).2 x hix
    have cj := (h1.1.2.2.2.1 i ki).2 j hij
    have bj := h1.1.1 j kj
    (repeat (refine GW.pl rfl rfl ?_))
    refine GW.c1 rfl rfl (by first | exact Or.inl rfl | exact Or.inr (grecv_at (by assumption)) | exact Or.inr (grecv_c (by assumption)) | exact Or.inr (grecv_c (SIs.cls (by assumption))) | exact Or.inr (grecv_at (BSb.at (by assumption)))) (by first | exact Or.inl (by decide) | exact Or.inr (gnewv_at (by assumption))) rfl (G_tmPr h1.2.2.1 (some x) (some i) (vld1 kx) hxi) ?_; rintro _ _ ⟨rfl, rfl⟩
    refine GW.c1 rfl rfl (by first | exact Or.inl rfl | exact Or.inr (grecv_at (by assumption)) | exact Or.inr (grecv_c (by assumption)) | exact Or.inr (grecv_c (SIs.cls (by assumption))) | exact Or.inr (grecv_at (BSb.at (by assumption)))) (by first | exact Or.inl (by decide) | exact Or.inr (gnewv_at (by assumption))) rfl (G_tmC h1.2.2.1 (o := some i) (vld1 ki) h1.2.2.2.1) ?_; rintro _ _ ⟨rfl, rfl⟩
    refine GW.c2 rfl rfl (by first | exact Or.inl rfl | exact Or.inr (grecv_at (by assumption)) | exact Or.inr (grecv_c (by assumption)) | exact Or.inr (grecv_c (SIs.cls (by assumption))) | exact Or.inr (grecv_at (BSb.at (by assumption)))) (by first | exact Or.inl (by decide) | exact Or.inr (gnewv_at (by assumption))) rfl (G_tmSC h1.2.2.1 (o := some j) (vld1 kj) (clr_R h1.2.2.2.1 (vld1 ki))) ?_
    rintro _ g2 ⟨rfl, q2⟩
    have h2 := h1.col q2
    (repeat (refine GW.pl rfl rfl ?_))
    refine GW.c1 rfl rfl (by first | exact Or.inl rfl | exact Or.inr (grecv_at (by assumption)) | exact Or.inr (grecv_c (by assumption)) | exact Or.inr (grecv_c (SIs.cls (by assumption))) | exact Or.inr (grecv_at (BSb.at (by assumption)))) (by first | exact Or.inl (by decide) | exact Or.inr (gnewv_at (by assumption))) rfl (G_tmPr h2.2.2.1 (some x) (some i) (vld1 kx) hxi) ?_; rintro _ _ ⟨rfl, rfl⟩
    (repeat (refine GW.pl rfl rfl ?_))
    refine GW.c2 rfl rfl (by first | exact Or.inl rfl | exact Or.inr (grecv_at (by assumption)) | exact Or.inr (grecv_c (by assumption)) | exact Or.inr (grecv_c (SIs.cls (by assumption))) | exact Or.inr (grecv_at (BSb.at (by assumption)))) (by first | exact Or.inl (by decide) | exact Or.inr (gnewv_at (by assumption))) rfl (G_tmSC h2.2.2.1 (o := some i) (vld1 ki) (c := 1) (Or.inr rfl)) ?_
    rintro _ g3 ⟨rfl, q3⟩
    have h3 := h2.col q3
    (repeat (refine GW.pl rfl rfl ?_))
    refine GW.c1 rfl rfl (by first | exact Or.inl rfl | exact Or.inr (grecv_at (by assumption)) | exact Or.inr (grecv_c (by assumption)) | exact Or.inr (grecv_c (SIs.cls (by assumption))) | exact Or.inr (grecv_at (BSb.at (by assumption)))) (by first | exact Or.inl (by decide) | exact Or.inr (gnewv_at (by assumption))) rfl (G_tmRr h3.2.2.1 (some j) (R j) (vld1 kj) rfl) ?_; rintro _ _ ⟨rfl, rfl⟩
    (repeat (refine GW.pl rfl rfl ?_))
    refine GW.c2 rfl rfl (by first | exact Or.inl rfl | exact Or.inr (grecv_at (by assumption)) | exact Or.inr (grecv_c (by assumption)) | exact Or.inr (grecv_c (SIs.cls (by assumption))) | exact Or.inr (grecv_at (BSb.at (by assumption)))) (by first | exact Or.inl (by decide) | exact Or.inr (gnewv_at (by assumption))) rfl (G_tmSC h3.2.2.1 (o := R j) (h3.1.vR kj) (c := 1) (Or.inr rfl)) ?_
    rintro _ g4 ⟨rfl, q4⟩
    have h4 := h3.col q4
    (repeat (refine GW.pl rfl rfl ?_))
    refine GW.c1 rfl rfl (by first | exact Or.inl rfl | exact Or.inr (grecv_at (by assumption)) | exact Or.inr (grecv_c (by assumption)) | exact Or.inr (grecv_c (SIs.cls (by assumption))) | exact Or.inr (grecv_at (BSb.at (by assumption)))) (by first | exact Or.inl (by decide) | exact Or.inr (gnewv_at (by assumption))) rfl (G_tmPr h4.2.2.1 (some x) (some i) (vld1 kx) hxi) ?_; rintro _ _ ⟨rfl, rfl⟩
    have tA := h4.2.2.1.1
    refine GW.c2 rfl rfl (by first | exact Or.inl rfl | exact Or.inr (grecv_at (by assumption)) | exact Or.inr (grecv_c (by assumption)) | exact Or.inr (grecv_c (SIs.cls (by assumption))) | exact Or.inr (grecv_at (BSb.at (by assumption)))) (by first | exact Or.inl (by decide) | exact Or.inr (gnewv_at (by assumption))) rfl (G_rotL h4.1 h4.2.2.1 ki hij) ?_
    rintro _ g5 ⟨rfl, hK5, hl5, e5⟩
    have h5 := h4.rotL ki hij hK5 hl5 e5
    have hlf5 := Lf.rotL h4.1 ki hij (show x ≠ i by omega) (show x ≠ j by omega) (fun z => by have := hlf z; exact ⟨by omega, by omega⟩) hlf
    (repeat (refine GW.pl rfl rfl ?_))
    refine GW.getr rfl rfl (GHas.at h5.2.2.1.1 rfl) (TLk.fT h5.2.2.1) ?_
    cases hr : rlRt P rt i j with
    | none => exact absurd kx (h5.1.2.2.2.2.2.1 hr x)
    | some r =>
      (iterate 2 (refine GW.pl rfl rfl ?_))
      exact er _ r _ _ _ _ _ _ _ hr h5 (fun z => (hlf5 z).2.2)
  -- the last rotation, x on the right
  have c71 : ∀ (g1 : GH) (x i j : Int) (lo hi : Int → Int) (L R P : Int → Option Int) (rt : Option Int), K x → TFx g0 g1 t K N ky vl lo hi L R P rt → P x = some i → R i = some x → L i = some j → Lf pr x p lo hi L R → GW (d + 1) gm_J5_fixAfterDeletion 150 [some (aR t), some (aR (N x)), some (aR (N j))] [] g1 (fun r g' => ∃ v, r = .inl v ∧ v = none ∧ TFd pr p g0 g' t K N ky vl) := by
    intro g1 x i j lo hi L R P rt kx h1 hxi hix hij hlf
    have ki := h1.1.vP kx i hxi
    have kj := h1.1.vL ki j hij
    have bx := h1.1.1 x kx
    have cx := (h1.1.2.2.2.1 i ki).2 x hix
    have cj := (h1.1.2.2.1 i ki).2 j hij
    have bj := h1.1.1 j kj
    (repeat (refine GW.pl rfl rfl ?_))
    refine GW.c1 rfl rfl (by first | exact Or.inl rfl | exact Or.inr (grecv_at (by assumption)) | exact Or.inr (grecv_c (by assumption)) | exact Or.inr (grecv_c (SIs.cls (by assumption))) | exact Or.inr (grecv_at (BSb.at (by assumption)))) (by first | exact Or.inl (by decide) | exact Or.inr (gnewv_at (by assumption))) rfl (G_tmPr h1.2.2.1 (some x) (some i) (vld1 kx) hxi) ?_; rintro _ _ ⟨rfl, rfl⟩
    refine GW.c1 rfl rfl (by first | exact Or.inl rfl | exact Or.inr (grecv_at (by assumption)) | exact Or.inr (grecv_c (by assumption)) | exact Or.inr (grecv_c (SIs.cls (by assumption))) | exact Or.inr (grecv_at (BSb.at (by assumption)))) (by first | exact Or.inl (by decide) | exact Or.inr (gnewv_at (by assumption))) rfl (G_tmC h1.2.2.1 (o := some i) (vld1 ki) h1.2.2.2.1) ?_; rintro _ _ ⟨rfl, rfl⟩
    refine GW.c2 rfl rfl (by first | exact Or.inl rfl | exact Or.inr (grecv_at (by assumption)) | exact Or.inr (grecv_c (by assumption)) | exact Or.inr (grecv_c (SIs.cls (by assumption))) | exact Or.inr (grecv_at (BSb.at (by assumption)))) (by first | exact Or.inl (by decide) | exact Or.inr (gnewv_at (by assumption))) rfl (G_tmSC h1.2.2.1 (o := some j) (vld1 kj) (clr_R h1.2.2.2.1 (vld1 ki))) ?_
    rintro _ g2 ⟨rfl, q2⟩
    have h2 := h1.col q2
    (repeat (refine GW.pl rfl rfl ?_))
    refine GW.c1 rfl rfl (by first | exact Or.inl rfl | exact Or.inr (grecv_at (by assumption)) | exact Or.inr (grecv_c (by assumption)) | exact Or.inr (grecv_c (SIs.cls (by assumption))) | exact Or.inr (grecv_at (BSb.at (by assumption)))) (by first | exact Or.inl (by decide) | exact Or.inr (gnewv_at (by assumption))) rfl (G_tmPr h2.2.2.1 (some x) (some i) (vld1 kx) hxi) ?_; rintro _ _ ⟨rfl, rfl⟩
    (repeat (refine GW.pl rfl rfl ?_))
    refine GW.c2 rfl rfl (by first | exact Or.inl rfl | exact Or.inr (grecv_at (by assumption)) | exact Or.inr (grecv_c (by assumption)) | exact Or.inr (grecv_c (SIs.cls (by assumption))) | exact Or.inr (grecv_at (BSb.at (by assumption)))) (by first | exact Or.inl (by decide) | exact Or.inr (gnewv_at (by assumption))) rfl (G_tmSC h2.2.2.1 (o := some i) (vld1 ki) (c := 1) (Or.inr rfl)) ?_
    rintro _ g3 ⟨rfl, q3⟩
    have h3 := h2.col q3
    (repeat (refine GW.pl rfl rfl ?_))
    refine GW.c1 rfl rfl (by first | exact Or.inl rfl | exact Or.inr (grecv_at (by assumption)) | exact Or.inr (grecv_c (by assumption)) | exact Or.inr (grecv_c (SIs.cls (by assumption))) | exact Or.inr (grecv_at (BSb.at (by assumption)))) (by first | exact Or.inl (by decide) | exact Or.inr (gnewv_at (by assumption))) rfl (G_tmLr h3.2.2.1 (some j) (L j) (vld1 kj) rfl) ?_; rintro _ _ ⟨rfl, rfl⟩
    (repeat (refine GW.pl rfl rfl ?_))
    refine GW.c2 rfl rfl (by first | exact Or.inl rfl | exact Or.inr (grecv_at (by assumption)) | exact Or.inr (grecv_c (by assumption)) | exact Or.inr (grecv_c (SIs.cls (by assumption))) | exact Or.inr (grecv_at (BSb.at (by assumption)))) (by first | exact Or.inl (by decide) | exact Or.inr (gnewv_at (by assumption))) rfl (G_tmSC h3.2.2.1 (o := L j) (h3.1.vL kj) (c := 1) (Or.inr rfl)) ?_
    rintro _ g4 ⟨rfl, q4⟩
    have h4 := h3.col q4
    (repeat (refine GW.pl rfl rfl ?_))
    refine GW.c1 rfl rfl (by first | exact Or.inl rfl | exact Or.inr (grecv_at (by assumption)) | exact Or.inr (grecv_c (by assumption)) | exact Or.inr (grecv_c (SIs.cls (by assumption))) | exact Or.inr (grecv_at (BSb.at (by assumption)))) (by first | exact Or.inl (by decide) | exact Or.inr (gnewv_at (by assumption))) rfl (G_tmPr h4.2.2.1 (some x) (some i) (vld1 kx) hxi) ?_; rintro _ _ ⟨rfl, rfl⟩
    have tA := h4.2.2.1.1
    refine GW.c2 rfl rfl (by first | exact Or.inl rfl | exact Or.inr (grecv_at (by assumption)) | exact Or.inr (grecv_c (by assumption)) | exact Or.inr (grecv_c (SIs.cls (by assumption))) | exact Or.inr (grecv_at (BSb.at (by assumption)))) (by first | exact Or.inl (by decide) | exact Or.inr (gnewv_at (by assumption))) rfl (G_rotR h4.1 h4.2.2.1 ki hij) ?_
    rintro _ g5 ⟨rfl, hK5, hl5, e5⟩
    have h5 := h4.rotR ki hij hK5 hl5 e5
    have hlf5 := Lf.rotR h4.1 ki hij (show x ≠ i by omega) (show x ≠ j by omega) (fun z => by have := hlf z; exact ⟨by omega, by omega⟩) hlf
    (repeat (refine GW.pl rfl rfl ?_))
    refine GW.getr rfl rfl (GHas.at h5.2.2.1.1 rfl) (TLk.fT h5.2.2.1) ?_
    cases hr : rrRt P rt i j with
    | none => exact absurd kx (h5.1.2.2.2.2.2.1 hr x)
    | some r =>
      (iterate 2 (refine GW.pl rfl rfl ?_))
      exact er _ r _ _ _ _ _ _ _ hr h5 (fun z => (hlf5 z).2.2)
  have loop : ∀ (m : Nat) (g1 : GH) (x : Int) (y : Option GV) (lo hi : Int → Int) (L R P : Int → Option Int) (rt : Option Int), K x → 130 - (hi x - lo x) ≤ m → TFx g0 g1 t K N ky vl lo hi L R P rt → Lf pr x p lo hi L R → GW (d + 1) gm_J5_fixAfterDeletion 0 [some (aR t), some (aR (N x)), y] [] g1 (fun r g' => ∃ v, r = .inl v ∧ v = none ∧ TFd pr p g0 g' t K N ky vl) := by
    intro m
    induction m with
    | zero =>
      intro g1 x y lo hi L R P rt kx hm h1
      have := h1.1.1 x kx
      omega
    | succ m ih =>
      -- x on the left: the brother's children
      have b35 : ∀ (g1 : GH) (x i : Int) (lo hi : Int → Int) (L R P : Int → Option Int) (rt : Option Int), K x → 130 - (hi x - lo x) ≤ ((m + 1 : Nat) : Int) → TFx g0 g1 t K N ky vl lo hi L R P rt → P x = some i → L i = some x → Lf pr x p lo hi L R → GW (d + 1) gm_J5_fixAfterDeletion 35 [some (aR t), some (aR (N x)), some (aQ ((R i).map N))] [] g1 (fun r g' => ∃ v, r = .inl v ∧ v = none ∧ TFd pr p g0 g' t K N ky vl) := by
        intro g1 x i lo hi L R P rt kx hm h1 hxi hix hlf
        have ki := h1.1.vP kx i hxi
        have bx := h1.1.1 x kx
        have bi := h1.1.1 i ki
        have cx := (h1.1.2.2.1 i ki).2 x hix
        have vj := h1.1.vR ki
        have vl1 : ∀ k, (R i).bind L = some k → K k := fun k hk => by
          cases hw : R i with
          | none => rw [hw] at hk; cases hk
          | some w => rw [hw] at hk; exact h1.1.vL (vj w hw) k hk
        have vr1 : ∀ k, (R i).bind R = some k → K k := fun k hk => by
          cases hw : R i with
          | none => rw [hw] at hk; cases hk
          | some w => rw [hw] at hk; exact h1.1.vR (vj w hw) k hk
        have c52 : (clr g1 N ((R i).bind L) = 0 ∨ clr g1 N ((R i).bind R) = 0) → GW (d + 1) gm_J5_fixAfterDeletion 52 [some (aR t), some (aR (N x)), some (aQ ((R i).map N))] [] g1 (fun r g' => ∃ v, r = .inl v ∧ v = none ∧ TFd pr p g0 g' t K N ky vl) := by
          intro hor
          obtain ⟨j, hij⟩ : ∃ j, R i = some j := by
            cases hw : R i with
            | none => rw [hw] at hor; rcases hor with z | z <;> cases z
            | some w => exact ⟨w, rfl⟩
          have kj := vj j hij
          have bj := h1.1.1 j kj
          have cj := (h1.1.2.2.2.1 i ki).2 j hij
          rw [hij] at hor vl1 vr1 ⊢
          (repeat (refine GW.pl rfl rfl ?_))
          refine GW.c1 rfl rfl (by first | exact Or.inl rfl | exact Or.inr (grecv_at (by assumption)) | exact Or.inr (grecv_c (by assumption)) | exact Or.inr (grecv_c (SIs.cls (by assumption))) | exact Or.inr (grecv_at (BSb.at (by assumption)))) (by first | exact Or.inl (by decide) | exact Or.inr (gnewv_at (by assumption))) rfl (G_tmRr h1.2.2.1 (some j) (R j) (vld1 kj) rfl) ?_; rintro _ _ ⟨rfl, rfl⟩
          refine GW.c1 rfl rfl (by first | exact Or.inl rfl | exact Or.inr (grecv_at (by assumption)) | exact Or.inr (grecv_c (by assumption)) | exact Or.inr (grecv_c (SIs.cls (by assumption))) | exact Or.inr (grecv_at (BSb.at (by assumption)))) (by first | exact Or.inl (by decide) | exact Or.inr (gnewv_at (by assumption))) rfl (G_tmC h1.2.2.1 (o := R j) vr1 h1.2.2.2.1) ?_; rintro _ _ ⟨rfl, rfl⟩
          (repeat (refine GW.pl rfl rfl ?_))
          have cR := clr_R (o := R j) h1.2.2.2.1 vr1
          refine GW.br rfl rfl (by rcases cR with z | z <;> rw [z] <;> decide) (fun hc => ?_) (fun hc => ?_)
          · exact b71 _ x i j _ _ _ _ _ _ kx h1 hxi hix hij hlf
          · have hl0 : clr g1 N (L j) = 0 := hor.resolve_right (fun z => by have z : clr g1 N (R j) = 0 := z; rw [hc] at z; cases z)
            obtain ⟨c, hjc⟩ := clr_some hl0
            have kc := h1.1.vL kj c hjc
            have cc := (h1.1.2.2.1 j kj).2 c hjc
            have bc := h1.1.1 c kc
            (repeat (refine GW.pl rfl rfl ?_))
            refine GW.c1 rfl rfl (by first | exact Or.inl rfl | exact Or.inr (grecv_at (by assumption)) | exact Or.inr (grecv_c (by assumption)) | exact Or.inr (grecv_c (SIs.cls (by assumption))) | exact Or.inr (grecv_at (BSb.at (by assumption)))) (by first | exact Or.inl (by decide) | exact Or.inr (gnewv_at (by assumption))) rfl (G_tmLr h1.2.2.1 (some j) (some c) (vld1 kj) hjc) ?_; rintro _ _ ⟨rfl, rfl⟩
            (repeat (refine GW.pl rfl rfl ?_))
            refine GW.c2 rfl rfl (by first | exact Or.inl rfl | exact Or.inr (grecv_at (by assumption)) | exact Or.inr (grecv_c (by assumption)) | exact Or.inr (grecv_c (SIs.cls (by assumption))) | exact Or.inr (grecv_at (BSb.at (by assumption)))) (by first | exact Or.inl (by decide) | exact Or.inr (gnewv_at (by assumption))) rfl (G_tmSC h1.2.2.1 (o := some c) (vld1 kc) (c := 1) (Or.inr rfl)) ?_
            rintro _ g2 ⟨rfl, q2⟩
            have h2 := h1.col q2
            (repeat (refine GW.pl rfl rfl ?_))
            refine GW.c2 rfl rfl (by first | exact Or.inl rfl | exact Or.inr (grecv_at (by assumption)) | exact Or.inr (grecv_c (by assumption)) | exact Or.inr (grecv_c (SIs.cls (by assumption))) | exact Or.inr (grecv_at (BSb.at (by assumption)))) (by first | exact Or.inl (by decide) | exact Or.inr (gnewv_at (by assumption))) rfl (G_tmSC h2.2.2.1 (o := some j) (vld1 kj) (c := 0) (Or.inl rfl)) ?_
            rintro _ g3 ⟨rfl, q3⟩
            have h3 := h2.col q3
            (repeat (refine GW.pl rfl rfl ?_))
            have tA := h3.2.2.1.1
            refine GW.c2 rfl rfl (by first | exact Or.inl rfl | exact Or.inr (grecv_at (by assumption)) | exact Or.inr (grecv_c (by assumption)) | exact Or.inr (grecv_c (SIs.cls (by assumption))) | exact Or.inr (grecv_at (BSb.at (by assumption)))) (by first | exact Or.inl (by decide) | exact Or.inr (gnewv_at (by assumption))) rfl (G_rotR h3.1 h3.2.2.1 kj hjc) ?_
            rintro _ g4 ⟨rfl, hK4, hl4, e4⟩
            have h4 := h3.rotR kj hjc hK4 hl4 e4
            have hlf4 := Lf.rotR h3.1 kj hjc (show x ≠ j by omega) (show x ≠ c by omega) (fun z => by have := hlf z; exact ⟨by omega, by omega⟩) hlf
            have pji : P j = some i := cj.2.2.2
            have w1 : rrP R P j c x = some i := by
              unfold rrP
              rw [if_neg (show ¬ x = j by omega), if_neg (show ¬ x = c by omega), if_neg (fun y => by have := (h1.1.2.2.2.1 c kc).2 x y; omega)]
              exact hxi
            have w2 : rrL R L P j c i = some x := by
              unfold rrL
              rw [if_neg (show ¬ i = j by omega), if_neg (fun y => y.2 hij)]
              exact hix
            have w3 : rrR R P j c i = some c := by
              unfold rrR
              rw [if_neg (show ¬ i = c by omega), if_pos ⟨pji, hij⟩]
            (repeat (refine GW.pl rfl rfl ?_))
            refine GW.c1 rfl rfl (by first | exact Or.inl rfl | exact Or.inr (grecv_at (by assumption)) | exact Or.inr (grecv_c (by assumption)) | exact Or.inr (grecv_c (SIs.cls (by assumption))) | exact Or.inr (grecv_at (BSb.at (by assumption)))) (by first | exact Or.inl (by decide) | exact Or.inr (gnewv_at (by assumption))) rfl (G_tmPr h4.2.2.1 (some x) (some i) (vld1 kx) w1) ?_; rintro _ _ ⟨rfl, rfl⟩
            refine GW.c1 rfl rfl (by first | exact Or.inl rfl | exact Or.inr (grecv_at (by assumption)) | exact Or.inr (grecv_c (by assumption)) | exact Or.inr (grecv_c (SIs.cls (by assumption))) | exact Or.inr (grecv_at (BSb.at (by assumption)))) (by first | exact Or.inl (by decide) | exact Or.inr (gnewv_at (by assumption))) rfl (G_tmRr h4.2.2.1 (some i) (some c) (vld1 ki) w3) ?_; rintro _ _ ⟨rfl, rfl⟩
            (iterate 1 (refine GW.pl rfl rfl ?_))
            exact b71 _ x i c _ _ _ _ _ _ kx h4 w1 w2 w3 hlf4
        (repeat (refine GW.pl rfl rfl ?_))
        refine GW.c1 rfl rfl (by first | exact Or.inl rfl | exact Or.inr (grecv_at (by assumption)) | exact Or.inr (grecv_c (by assumption)) | exact Or.inr (grecv_c (SIs.cls (by assumption))) | exact Or.inr (grecv_at (BSb.at (by assumption)))) (by first | exact Or.inl (by decide) | exact Or.inr (gnewv_at (by assumption))) rfl (G_tmLr h1.2.2.1 (R i) ((R i).bind L) vj rfl) ?_; rintro _ _ ⟨rfl, rfl⟩
        refine GW.c1 rfl rfl (by first | exact Or.inl rfl | exact Or.inr (grecv_at (by assumption)) | exact Or.inr (grecv_c (by assumption)) | exact Or.inr (grecv_c (SIs.cls (by assumption))) | exact Or.inr (grecv_at (BSb.at (by assumption)))) (by first | exact Or.inl (by decide) | exact Or.inr (gnewv_at (by assumption))) rfl (G_tmC h1.2.2.1 (o := (R i).bind L) vl1 h1.2.2.2.1) ?_; rintro _ _ ⟨rfl, rfl⟩
        (repeat (refine GW.pl rfl rfl ?_))
        have cL := clr_R (o := (R i).bind L) h1.2.2.2.1 vl1
        refine GW.br rfl rfl (by rcases cL with z | z <;> rw [z] <;> decide) (fun hc => ?_) (fun hc => ?_)
        · exact c52 (Or.inl (cL.resolve_right hc))
        · (repeat (refine GW.pl rfl rfl ?_))
          refine GW.c1 rfl rfl (by first | exact Or.inl rfl | exact Or.inr (grecv_at (by assumption)) | exact Or.inr (grecv_c (by assumption)) | exact Or.inr (grecv_c (SIs.cls (by assumption))) | exact Or.inr (grecv_at (BSb.at (by assumption)))) (by first | exact Or.inl (by decide) | exact Or.inr (gnewv_at (by assumption))) rfl (G_tmRr h1.2.2.1 (R i) ((R i).bind R) vj rfl) ?_; rintro _ _ ⟨rfl, rfl⟩
          refine GW.c1 rfl rfl (by first | exact Or.inl rfl | exact Or.inr (grecv_at (by assumption)) | exact Or.inr (grecv_c (by assumption)) | exact Or.inr (grecv_c (SIs.cls (by assumption))) | exact Or.inr (grecv_at (BSb.at (by assumption)))) (by first | exact Or.inl (by decide) | exact Or.inr (gnewv_at (by assumption))) rfl (G_tmC h1.2.2.1 (o := (R i).bind R) vr1 h1.2.2.2.1) ?_; rintro _ _ ⟨rfl, rfl⟩
          (repeat (refine GW.pl rfl rfl ?_))
          have cR := clr_R (o := (R i).bind R) h1.2.2.2.1 vr1
          refine GW.br rfl rfl (by rcases cR with z | z <;> rw [z] <;> decide) (fun hc2 => ?_) (fun hc2 => ?_)
          · exact c52 (Or.inr (cR.resolve_right hc2))
          · (repeat (refine GW.pl rfl rfl ?_))
            refine GW.c2 rfl rfl (by first | exact Or.inl rfl | exact Or.inr (grecv_at (by assumption)) | exact Or.inr (grecv_c (by assumption)) | exact Or.inr (grecv_c (SIs.cls (by assumption))) | exact Or.inr (grecv_at (BSb.at (by assumption)))) (by first | exact Or.inl (by decide) | exact Or.inr (gnewv_at (by assumption))) rfl (G_tmSC h1.2.2.1 (o := R i) vj (c := 0) (Or.inl rfl)) ?_
            rintro _ g2 ⟨rfl, q2⟩
            have h2 := h1.col q2
            (repeat (refine GW.pl rfl rfl ?_))
            refine GW.c1 rfl rfl (by first | exact Or.inl rfl | exact Or.inr (grecv_at (by assumption)) | exact Or.inr (grecv_c (by assumption)) | exact Or.inr (grecv_c (SIs.cls (by assumption))) | exact Or.inr (grecv_at (BSb.at (by assumption)))) (by first | exact Or.inl (by decide) | exact Or.inr (gnewv_at (by assumption))) rfl (G_tmPr h2.2.2.1 (some x) (some i) (vld1 kx) hxi) ?_; rintro _ _ ⟨rfl, rfl⟩
            (iterate 3 (refine GW.pl rfl rfl ?_))
            refine ih _ i _ lo hi L R P rt ki (by omega) h2 (fun z => ?_)
            have := hlf z
            exact ⟨by omega, by omega, this.2.2.1, this.2.2.2⟩
      -- x on the right: the brother's children
      have c35 : ∀ (g1 : GH) (x i : Int) (lo hi : Int → Int) (L R P : Int → Option Int) (rt : Option Int), K x → 130 - (hi x - lo x) ≤ ((m + 1 : Nat) : Int) → TFx g0 g1 t K N ky vl lo hi L R P rt → P x = some i → R i = some x → Lf pr x p lo hi L R → GW (d + 1) gm_J5_fixAfterDeletion 114 [some (aR t), some (aR (N x)), some (aQ ((L i).map N))] [] g1 (fun r g' => ∃ v, r = .inl v ∧ v = none ∧ TFd pr p g0 g' t K N ky vl) := by
        intro g1 x i lo hi L R P rt kx hm h1 hxi hix hlf
        have ki := h1.1.vP kx i hxi
        have bx := h1.1.1 x kx
        have bi := h1.1.1 i ki
        have cx := (h1.1.2.2.2.1 i ki).2 x hix
        have vj := h1.1.vL ki
        have vr1 : ∀ k, (L i).bind R = some k → K k := fun k hk => by
          cases hw : L i with
          | none => rw [hw] at hk; cases hk
          | some w => rw [hw] at hk; exact h1.1.vR (vj w hw) k hk
        have vl1 : ∀ k, (L i).bind L = some k → K k := fun k hk => by
          cases hw : L i with
          | none => rw [hw] at hk; cases hk
          | some w => rw [hw] at hk; exact h1.1.vL (vj w hw) k hk
        have c52 : (clr g1 N ((L i).bind R) = 0 ∨ clr g1 N ((L i).bind L) = 0) → GW (d + 1) gm_J5_fixAfterDeletion 131 [some (aR t), some (aR (N x)), some (aQ ((L i).map N))] [] g1 (fun r g' => ∃ v, r = .inl v ∧ v = none ∧ TFd pr p g0 g' t K N ky vl) := by
          intro hor
          obtain ⟨j, hij⟩ : ∃ j, L i = some j := by
            cases hw : L i with
            | none => rw [hw] at hor; rcases hor with z | z <;> cases z
            | some w => exact ⟨w, rfl⟩
          have kj := vj j hij
          have bj := h1.1.1 j kj
          have cj := (h1.1.2.2.1 i ki).2 j hij
          rw [hij] at hor vr1 vl1 ⊢
          (repeat (refine GW.pl rfl rfl ?_))
          refine GW.c1 rfl rfl (by first | exact Or.inl rfl | exact Or.inr (grecv_at (by assumption)) | exact Or.inr (grecv_c (by assumption)) | exact Or.inr (grecv_c (SIs.cls (by assumption))) | exact Or.inr (grecv_at (BSb.at (by assumption)))) (by first | exact Or.inl (by decide) | exact Or.inr (gnewv_at (by assumption))) rfl (G_tmLr h1.2.2.1 (some j) (L j) (vld1 kj) rfl) ?_; rintro _ _ ⟨rfl, rfl⟩
          refine GW.c1 rfl rfl (by first | exact Or.inl rfl | exact Or.inr (grecv_at (by assumption)) | exact Or.inr (grecv_c (by assumption)) | exact Or.inr (grecv_c (SIs.cls (by assumption))) | exact Or.inr (grecv_at (BSb.at (by assumption)))) (by first | exact Or.inl (by decide) | exact Or.inr (gnewv_at (by assumption))) rfl (G_tmC h1.2.2.1 (o := L j) vl1 h1.2.2.2.1) ?_; rintro _ _ ⟨rfl, rfl⟩
          (repeat (refine GW.pl rfl rfl ?_))
          have cR := clr_R (o := L j) h1.2.2.2.1 vl1
          refine GW.br rfl rfl (by rcases cR with z | z <;> rw [z] <;> decide) (fun hc => ?_) (fun hc => ?_)
          · exact c71 _ x i j _ _ _ _ _ _ kx h1 hxi hix hij hlf
          · have hl0 : clr g1 N (R j) = 0 := hor.resolve_right (fun z => by have z : clr g1 N (L j) = 0 := z; rw [hc] at z; cases z)
            obtain ⟨c, hjc⟩ := clr_some hl0
            have kc := h1.1.vR kj c hjc
            have cc := (h1.1.2.2.2.1 j kj).2 c hjc
            have bc := h1.1.1 c kc
            (repeat (refine GW.pl rfl rfl ?_))
            refine GW.c1 rfl rfl (by first | exact Or.inl rfl | exact Or.inr (grecv_at (by assumption)) | exact Or.inr (grecv_c (by assumption)) | exact Or.inr (grecv_c (SIs.cls (by assumption))) | exact Or.inr (grecv_at (BSb.at (by assumption)))) (by first | exact Or.inl (by decide) | exact Or.inr (gnewv_at (by assumption))) rfl (G_tmRr h1.2.2.1 (some j) (some c) (vld1 kj) hjc) ?_; rintro _ _ ⟨rfl, rfl⟩
            (repeat (refine GW.pl rfl rfl ?_))
            refine GW.c2 rfl rfl (by first | exact Or.inl rfl | exact Or.inr (grecv_at (by assumption)) | exact Or.inr (grecv_c (by assumption)) | exact Or.inr (grecv_c (SIs.cls (by assumption))) | exact Or.inr (grecv_at (BSb.at (by assumption)))) (by first | exact Or.inl (by decide) | exact Or.inr (gnewv_at (by assumption))) rfl (G_tmSC h1.2.2.1 (o := some c) (vld1 kc) (c := 1) (Or.inr rfl)) ?_
            rintro _ g2 ⟨rfl, q2⟩
            have h2 := h1.col q2
            (repeat (refine GW.pl rfl rfl ?_))
            refine GW.c2 rfl rfl (by first | exact Or.inl rfl | exact Or.inr (grecv_at (by assumption)) | exact Or.inr (grecv_c (by assumption)) | exact Or.inr (grecv_c (SIs.cls (by assumption))) | exact Or.inr (grecv_at (BSb.at (by assumption)))) (by first | exact Or.inl (by decide) | exact Or.inr (gnewv_at (by assumption))) rfl (G_tmSC h2.2.2.1 (o := some j) (vld1 kj) (c := 0) (Or.inl rfl)) ?_
            rintro _ g3 ⟨rfl, q3⟩
            have h3 := h2.col q3
            (repeat (refine GW.pl rfl rfl ?_))
            have tA := h3.2.2.1.1
            refine GW.c2 rfl rfl (by first | exact Or.inl rfl | exact Or.inr (grecv_at (by assumption)) | exact Or.inr (grecv_c (by assumption)) | exact Or.inr (grecv_c (SIs.cls (by assumption))) | exact Or.inr (grecv_at (BSb.at (by assumption)))) (by first | exact Or.inl (by decide) | exact Or.inr (gnewv_at (by assumption))) rfl (G_rotL h3.1 h3.2.2.1 kj hjc) ?_
            rintro _ g4 ⟨rfl, hK4, hl4, e4⟩
            have h4 := h3.rotL kj hjc hK4 hl4 e4
            have hlf4 := Lf.rotL h3.1 kj hjc (show x ≠ j by omega) (show x ≠ c by omega) (fun z => by have := hlf z; exact ⟨by omega, by omega⟩) hlf
            have pji : P j = some i := cj.2.2.2
            have w1 : rlP L P j c x = some i := by
              unfold rlP
              rw [if_neg (show ¬ x = j by omega), if_neg (show ¬ x = c by omega), if_neg (fun y => by have := (h1.1.2.2.1 c kc).2 x y; omega)]
              exact hxi
            have w2 : rlR L R P j c i = some x := by
              unfold rlR
              rw [if_neg (show ¬ i = j by omega), if_neg (fun y => y.2 hij)]
              exact hix
            have w3 : rlL L P j c i = some c := by
              unfold rlL
              rw [if_neg (show ¬ i = c by omega), if_pos ⟨pji, hij⟩]
            (repeat (refine GW.pl rfl rfl ?_))
            refine GW.c1 rfl rfl (by first | exact Or.inl rfl | exact Or.inr (grecv_at (by assumption)) | exact Or.inr (grecv_c (by assumption)) | exact Or.inr (grecv_c (SIs.cls (by assumption))) | exact Or.inr (grecv_at (BSb.at (by assumption)))) (by first | exact Or.inl (by decide) | exact Or.inr (gnewv_at (by assumption))) rfl (G_tmPr h4.2.2.1 (some x) (some i) (vld1 kx) w1) ?_; rintro _ _ ⟨rfl, rfl⟩
            refine GW.c1 rfl rfl (by first | exact Or.inl rfl | exact Or.inr (grecv_at (by assumption)) | exact Or.inr (grecv_c (by assumption)) | exact Or.inr (grecv_c (SIs.cls (by assumption))) | exact Or.inr (grecv_at (BSb.at (by assumption)))) (by first | exact Or.inl (by decide) | exact Or.inr (gnewv_at (by assumption))) rfl (G_tmLr h4.2.2.1 (some i) (some c) (vld1 ki) w3) ?_; rintro _ _ ⟨rfl, rfl⟩
            (iterate 1 (refine GW.pl rfl rfl ?_))
            exact c71 _ x i c _ _ _ _ _ _ kx h4 w1 w2 w3 hlf4
        (repeat (refine GW.pl rfl rfl ?_))
        refine GW.c1 rfl rfl (by first | exact Or.inl rfl | exact Or.inr (grecv_at (by assumption)) | exact Or.inr (grecv_c (by assumption)) | exact Or.inr (grecv_c (SIs.cls (by assumption))) | exact Or.inr (grecv_at (BSb.at (by assumption)))) (by first | exact Or.inl (by decide) | exact Or.inr (gnewv_at (by assumption))) rfl (G_tmRr h1.2.2.1 (L i) ((L i).bind R) vj rfl) ?_; rintro _ _ ⟨rfl, rfl⟩
        refine GW.c1 rfl rfl (by first | exact Or.inl rfl | exact Or.inr (grecv_at (by assumption)) | exact Or.inr (grecv_c (by assumption)) | exact Or.inr (grecv_c (SIs.cls (by assumption))) | exact Or.inr (grecv_at (BSb.at (by assumption)))) (by first | exact Or.inl (by decide) | exact Or.inr (gnewv_at (by assumption))) rfl (G_tmC h1.2.2.1 (o := (L i).bind R) vr1 h1.2.2.2.1) ?_; rintro _ _ ⟨rfl, rfl⟩
        (repeat (refine GW.pl rfl rfl ?_))
        have cL := clr_R (o := (L i).bind R) h1.2.2.2.1 vr1
        refine GW.br rfl rfl (by rcases cL with z | z <;> rw [z] <;> decide) (fun hc => ?_) (fun hc => ?_)
        · exact c52 (Or.inl (cL.resolve_right hc))
        · (repeat (refine GW.pl rfl rfl ?_))
          refine GW.c1 rfl rfl (by first | exact Or.inl rfl | exact Or.inr (grecv_at (by assumption)) | exact Or.inr (grecv_c (by assumption)) | exact Or.inr (grecv_c (SIs.cls (by assumption))) | exact Or.inr (grecv_at (BSb.at (by assumption)))) (by first | exact Or.inl (by decide) | exact Or.inr (gnewv_at (by assumption))) rfl (G_tmLr h1.2.2.1 (L i) ((L i).bind L) vj rfl) ?_; rintro _ _ ⟨rfl, rfl⟩
          refine GW.c1 rfl rfl (by first | exact Or.inl rfl | exact Or.inr (grecv_at (by assumption)) | exact Or.inr (grecv_c (by assumption)) | exact Or.inr (grecv_c (SIs.cls (by assumption))) | exact Or.inr (grecv_at (BSb.at (by assumption)))) (by first | exact Or.inl (by decide) | exact Or.inr (gnewv_at (by assumption))) rfl (G_tmC h1.2.2.1 (o := (L i).bind L) vl1 h1.2.2.2.1) ?_; rintro _ _ ⟨rfl, rfl⟩
          (repeat (refine GW.pl rfl rfl ?_))
          have cR := clr_R (o := (L i).bind L) h1.2.2.2.1 vl1
          refine GW.br rfl rfl (by rcases cR with z | z <;> rw [z] <;> decide) (fun hc2 => ?_) (fun hc2 => ?_)
          · exact c52 (Or.inr (cR.resolve_right hc2))
          · (repeat (refine GW.pl rfl rfl ?_))
            refine GW.c2 rfl rfl (by first | exact Or.inl rfl | exact Or.inr (grecv_at (by assumption)) | exact Or.inr (grecv_c (by assumption)) | exact Or.inr (grecv_c (SIs.cls (by assumption))) | exact Or.inr (grecv_at (BSb.at (by assumption)))) (by first | exact Or.inl (by decide) | exact Or.inr (gnewv_at (by assumption))) rfl (G_tmSC h1.2.2.1 (o := L i) vj (c := 0) (Or.inl rfl)) ?_
            rintro _ g2 ⟨rfl, q2⟩
            have h2 := h1.col q2
            (repeat (refine GW.pl rfl rfl ?_))
            refine GW.c1 rfl rfl (by first | exact Or.inl rfl | exact Or.inr (grecv_at (by assumption)) | exact Or.inr (grecv_c (by assumption)) | exact Or.inr (grecv_c (SIs.cls (by assumption))) | exact Or.inr (grecv_at (BSb.at (by assumption)))) (by first | exact Or.inl (by decide) | exact Or.inr (gnewv_at (by assumption))) rfl (G_tmPr h2.2.2.1 (some x) (some i) (vld1 kx) hxi) ?_; rintro _ _ ⟨rfl, rfl⟩
            (iterate 3 (refine GW.pl rfl rfl ?_))
            refine ih _ i _ lo hi L R P rt ki (by omega) h2 (fun z => ?_)
            have := hlf z
            exact ⟨by omega, by omega, this.2.2.1, this.2.2.2⟩
      -- x on the left: a red brother goes up
      have b13 : ∀ (g1 : GH) (x i : Int) (y : Option GV) (lo hi : Int → Int) (L R P : Int → Option Int) (rt : Option Int), K x → 130 - (hi x - lo x) ≤ ((m + 1 : Nat) : Int) → TFx g0 g1 t K N ky vl lo hi L R P rt → P x = some i → L i = some x → Lf pr x p lo hi L R → GW (d + 1) gm_J5_fixAfterDeletion 13 [some (aR t), some (aR (N x)), y] [] g1 (fun r g' => ∃ v, r = .inl v ∧ v = none ∧ TFd pr p g0 g' t K N ky vl) := by
        intro g1 x i y lo hi L R P rt kx hm h1 hxi hix hlf
        have ki := h1.1.vP kx i hxi
        have bx := h1.1.1 x kx
        have cx := (h1.1.2.2.1 i ki).2 x hix
        have vj := h1.1.vR ki
        (repeat (refine GW.pl rfl rfl ?_))
        refine GW.c1 rfl rfl (by first | exact Or.inl rfl | exact Or.inr (grecv_at (by assumption)) | exact Or.inr (grecv_c (by assumption)) | exact Or.inr (grecv_c (SIs.cls (by assumption))) | exact Or.inr (grecv_at (BSb.at (by assumption)))) (by first | exact Or.inl (by decide) | exact Or.inr (gnewv_at (by assumption))) rfl (G_tmPr h1.2.2.1 (some x) (some i) (vld1 kx) hxi) ?_; rintro _ _ ⟨rfl, rfl⟩
        refine GW.c1 rfl rfl (by first | exact Or.inl rfl | exact Or.inr (grecv_at (by assumption)) | exact Or.inr (grecv_c (by assumption)) | exact Or.inr (grecv_c (SIs.cls (by assumption))) | exact Or.inr (grecv_at (BSb.at (by assumption)))) (by first | exact Or.inl (by decide) | exact Or.inr (gnewv_at (by assumption))) rfl (G_tmRr h1.2.2.1 (some i) (R i) (vld1 ki) rfl) ?_; rintro _ _ ⟨rfl, rfl⟩
        refine GW.str rfl rfl ?_
        (repeat (refine GW.pl rfl rfl ?_))
        refine GW.c1 rfl rfl (by first | exact Or.inl rfl | exact Or.inr (grecv_at (by assumption)) | exact Or.inr (grecv_c (by assumption)) | exact Or.inr (grecv_c (SIs.cls (by assumption))) | exact Or.inr (grecv_at (BSb.at (by assumption)))) (by first | exact Or.inl (by decide) | exact Or.inr (gnewv_at (by assumption))) rfl (G_tmC h1.2.2.1 (o := R i) vj h1.2.2.2.1) ?_; rintro _ _ ⟨rfl, rfl⟩
        have cR := clr_R (o := R i) h1.2.2.2.1 vj
        refine GW.br rfl rfl (by rcases cR with z | z <;> rw [z] <;> decide) (fun hc => ?_) (fun hc => ?_)
        · exact b35 _ x i _ _ _ _ _ _ kx hm h1 hxi hix hlf
        · obtain ⟨j, hij⟩ := clr_some hc
          have kj := vj j hij
          have bj := h1.1.1 j kj
          have cj := (h1.1.2.2.2.1 i ki).2 j hij
          rw [hij]
          (repeat (refine GW.pl rfl rfl ?_))
          refine GW.c2 rfl rfl (by first | exact Or.inl rfl | exact Or.inr (grecv_at (by assumption)) | exact Or.inr (grecv_c (by assumption)) | exact Or.inr (grecv_c (SIs.cls (by assumption))) | exact Or.inr (grecv_at (BSb.at (by assumption)))) (by first | exact Or.inl (by decide) | exact Or.inr (gnewv_at (by assumption))) rfl (G_tmSC h1.2.2.1 (o := some j) (vld1 kj) (c := 1) (Or.inr rfl)) ?_
          rintro _ g2 ⟨rfl, q2⟩
          have h2 := h1.col q2
          (repeat (refine GW.pl rfl rfl ?_))
          refine GW.c1 rfl rfl (by first | exact Or.inl rfl | exact Or.inr (grecv_at (by assumption)) | exact Or.inr (grecv_c (by assumption)) | exact Or.inr (grecv_c (SIs.cls (by assumption))) | exact Or.inr (grecv_at (BSb.at (by assumption)))) (by first | exact Or.inl (by decide) | exact Or.inr (gnewv_at (by assumption))) rfl (G_tmPr h2.2.2.1 (some x) (some i) (vld1 kx) hxi) ?_; rintro _ _ ⟨rfl, rfl⟩
          (repeat (refine GW.pl rfl rfl ?_))
          refine GW.c2 rfl rfl (by first | exact Or.inl rfl | exact Or.inr (grecv_at (by assumption)) | exact Or.inr (grecv_c (by assumption)) | exact Or.inr (grecv_c (SIs.cls (by assumption))) | exact Or.inr (grecv_at (BSb.at (by assumption)))) (by first | exact Or.inl (by decide) | exact Or.inr (gnewv_at (by assumption))) rfl (G_tmSC h2.2.2.1 (o := some i) (vld1 ki) (c := 0) (Or.inl rfl)) ?_
          rintro _ g3 ⟨rfl, q3⟩
          have h3 := h2.col q3
          (repeat (refine GW.pl rfl rfl ?_))
          refine GW.c1 rfl rfl (by first | exact Or.inl rfl | exact Or.inr (grecv_at (by assumption)) | exact Or.inr (grecv_c (by assumption)) | exact Or.inr (grecv_c (SIs.cls (by assumption))) | exact Or.inr (grecv_at (BSb.at (by assumption)))) (by first | exact Or.inl (by decide) | exact Or.inr (gnewv_at (by assumption))) rfl (G_tmPr h3.2.2.1 (some x) (some i) (vld1 kx) hxi) ?_; rintro _ _ ⟨rfl, rfl⟩
          have tA := h3.2.2.1.1
          refine GW.c2 rfl rfl (by first | exact Or.inl rfl | exact Or.inr (grecv_at (by assumption)) | exact Or.inr (grecv_c (by assumption)) | exact Or.inr (grecv_c (SIs.cls (by assumption))) | exact Or.inr (grecv_at (BSb.at (by assumption)))) (by first | exact Or.inl (by decide) | exact Or.inr (gnewv_at (by assumption))) rfl (G_rotL h3.1 h3.2.2.1 ki hij) ?_
          rintro _ g4 ⟨rfl, hK4, hl4, e4⟩
          have h4 := h3.rotL ki hij hK4 hl4 e4
          have hlf4 := Lf.rotL h3.1 ki hij (show x ≠ i by omega) (show x ≠ j by omega) (fun z => by have := hlf z; exact ⟨by omega, by omega⟩) hlf
          have w1 : rlP L P i j x = some i := by
            unfold rlP
            rw [if_neg (show ¬ x = i by omega), if_neg (show ¬ x = j by omega), if_neg (fun y => by have := (h1.1.2.2.1 j kj).2 x y; omega)]
            exact hxi
          have w2 : rlL L P i j i = some x := by
            unfold rlL
            rw [if_neg (show ¬ i = j by omega), if_neg (fun y => by rw [hix] at y; have := Option.some.inj y.2; omega)]
            exact hix
          (repeat (refine GW.pl rfl rfl ?_))
          refine GW.c1 rfl rfl (by first | exact Or.inl rfl | exact Or.inr (grecv_at (by assumption)) | exact Or.inr (grecv_c (by assumption)) | exact Or.inr (grecv_c (SIs.cls (by assumption))) | exact Or.inr (grecv_at (BSb.at (by assumption)))) (by first | exact Or.inl (by decide) | exact Or.inr (gnewv_at (by assumption))) rfl (G_tmPr h4.2.2.1 (some x) (some i) (vld1 kx) w1) ?_; rintro _ _ ⟨rfl, rfl⟩
          refine GW.c1 rfl rfl (by first | exact Or.inl rfl | exact Or.inr (grecv_at (by assumption)) | exact Or.inr (grecv_c (by assumption)) | exact Or.inr (grecv_c (SIs.cls (by assumption))) | exact Or.inr (grecv_at (BSb.at (by assumption)))) (by first | exact Or.inl (by decide) | exact Or.inr (gnewv_at (by assumption))) rfl (G_tmRr h4.2.2.1 (some i) (rlR L R P i j i) (vld1 ki) rfl) ?_; rintro _ _ ⟨rfl, rfl⟩
          (iterate 1 (refine GW.pl rfl rfl ?_))
          refine b35 _ x i _ _ _ _ _ _ kx ?_ h4 w1 w2 hlf4
          (try dsimp only)
          rw [if_neg (show ¬ x = i by omega), if_neg (show ¬ x = j by omega)]
          exact hm
      -- x on the right: a red brother goes up
      have c13 : ∀ (g1 : GH) (x i : Int) (y : Option GV) (lo hi : Int → Int) (L R P : Int → Option Int) (rt : Option Int), K x → 130 - (hi x - lo x) ≤ ((m + 1 : Nat) : Int) → TFx g0 g1 t K N ky vl lo hi L R P rt → P x = some i → R i = some x → Lf pr x p lo hi L R → GW (d + 1) gm_J5_fixAfterDeletion 92 [some (aR t), some (aR (N x)), y] [] g1 (fun r g' => ∃ v, r = .inl v ∧ v = none ∧ TFd pr p g0 g' t K N ky vl) := by
        intro g1 x i y lo hi L R P rt kx hm h1 hxi hix hlf
        have ki := h1.1.vP kx i hxi
        have bx := h1.1.1 x kx
        have cx := (h1.1.2.2.2.1 i ki).2 x hix
        have vj := h1.1.vL ki
        (repeat (refine GW.pl rfl rfl ?_))
        refine GW.c1 rfl rfl (by first | exact Or.inl rfl | exact Or.inr (grecv_at (by assumption)) | exact Or.inr (grecv_c (by assumption)) | exact Or.inr (grecv_c (SIs.cls (by assumption))) | exact Or.inr (grecv_at (BSb.at (by assumption)))) (by first | exact Or.inl (by decide) | exact Or.inr (gnewv_at (by assumption))) rfl (G_tmPr h1.2.2.1 (some x) (some i) (vld1 kx) hxi) ?_; rintro _ _ ⟨rfl, rfl⟩
        refine GW.c1 rfl rfl (by first | exact Or.inl rfl | exact Or.inr (grecv_at (by assumption)) | exact Or.inr (grecv_c (by assumption)) | exact Or.inr (grecv_c (SIs.cls (by assumption))) | exact Or.inr (grecv_at (BSb.at (by assumption)))) (by first | exact Or.inl (by decide) | exact Or.inr (gnewv_at (by assumption))) rfl (G_tmLr h1.2.2.1 (some i) (L i) (vld1 ki) rfl) ?_; rintro _ _ ⟨rfl, rfl⟩
        refine GW.str rfl rfl ?_
        (repeat (refine GW.pl rfl rfl ?_))
        refine GW.c1 rfl rfl (by first | exact Or.inl rfl | exact Or.inr (grecv_at (by assumption)) | exact Or.inr (grecv_c (by assumption)) | exact Or.inr (grecv_c (SIs.cls (by assumption))) | exact Or.inr (grecv_at (BSb.at (by assumption)))) (by first | exact Or.inl (by decide) | exact Or.inr (gnewv_at (by assumption))) rfl (G_tmC h1.2.2.1 (o := L i) vj h1.2.2.2.1) ?_; rintro _ _ ⟨rfl, rfl⟩
        have cR := clr_R (o := L i) h1.2.2.2.1 vj
        refine GW.br rfl rfl (by rcases cR with z | z <;> rw [z] <;> decide) (fun hc => ?_) (fun hc => ?_)
        · exact c35 _ x i _ _ _ _ _ _ kx hm h1 hxi hix hlf
        · obtain ⟨j, hij⟩ := clr_some hc
          have kj := vj j hij
          have bj := h1.1.1 j kj
          have cj := (h1.1.2.2.1 i ki).2 j hij
          rw [hij]
          (repeat (refine GW.pl rfl rfl ?_))
          refine GW.c2 rfl rfl (by first | exact Or.inl rfl | exact Or.inr (grecv_at (by assumption)) | exact Or.inr (grecv_c (by assumption)) | exact Or.inr (grecv_c (SIs.cls (by assumption))) | exact Or.inr (grecv_at (BSb.at (by assumption)))) (by first | exact Or.inl (by decide) | exact Or.inr (gnewv_at (by assumption))) rfl (G_tmSC h1.2.2.1 (o := some j) (vld1 kj) (c := 1) (Or.inr rfl)) ?_
          rintro _ g2 ⟨rfl, q2⟩
          have h2 := h1.col q2
          (repeat (refine GW.pl rfl rfl ?_))
          refine GW.c1 rfl rfl (by first | exact Or.inl rfl | exact Or.inr (grecv_at (by assumption)) | exact Or.inr (grecv_c (by assumption)) | exact Or.inr (grecv_c (SIs.cls (by assumption))) | exact Or.inr (grecv_at (BSb.at (by assumption)))) (by first | exact Or.inl (by decide) | exact Or.inr (gnewv_at (by assumption))) rfl (G_tmPr h2.2.2.1 (some x) (some i) (vld1 kx) hxi) ?_; rintro _ _ ⟨rfl, rfl⟩
          (repeat (refine GW.pl rfl rfl ?_))
          refine GW.c2 rfl rfl (by first | exact Or.inl rfl | exact Or.inr (grecv_at (by assumption)) | exact Or.inr (grecv_c (by assumption)) | exact Or.inr (grecv_c (SIs.cls (by assumption))) | exact Or.inr (grecv_at (BSb.at (by assumption)))) (by first | exact Or.inl (by decide) | exact Or.inr (gnewv_at (by assumption))) rfl (G_tmSC h2.2.2.1 (o := some i) (vld1 ki) (c := 0) (Or.inl rfl)) ?_
          rintro _ g3 ⟨rfl, q3⟩
          have h3 := h2.col q3
          (repeat (refine GW.pl rfl rfl ?_))
          refine GW.c1 rfl rfl (by first | exact Or.inl rfl | exact Or.inr (grecv_at (by assumption)) | exact Or.inr (grecv_c (by assumption)) | exact Or.inr (grecv_c (SIs.cls (by assumption))) | exact Or.inr (grecv_at (BSb.at (by assumption)))) (by first | exact Or.inl (by decide) | exact Or.inr (gnewv_at (by assumption))) rfl (G_tmPr h3.2.2.1 (some x) (some i) (vld1 kx) hxi) ?_; rintro _ _ ⟨rfl, rfl⟩
          have tA := h3.2.2.1.1
          refine GW.c2 rfl rfl (by first | exact Or.inl rfl | exact Or.inr (grecv_at (by assumption)) | exact Or.inr (grecv_c (by assumption)) | exact Or.inr (grecv_c (SIs.cls (by assumption))) | exact Or.inr (grecv_at (BSb.at (by assumption)))) (by first | exact Or.inl (by decide) | exact Or.inr (gnewv_at (by assumption))) rfl (G_rotR h3.1 h3.2.2.1 ki hij) ?_
          rintro _ g4 ⟨rfl, hK4, hl4, e4⟩
          have h4 := h3.rotR ki hij hK4 hl4 e4
          have hlf4 := Lf.rotR h3.1 ki hij (show x ≠ i by omega) (show x ≠ j by omega) (fun z => by have := hlf z; exact ⟨by omega, by omega⟩) hlf
          have w1 : rrP R P i j x = some i := by
            unfold rrP
            rw [if_neg (show ¬ x = i by omega), if_neg (show ¬ x = j by omega), if_neg (fun y => by have := (h1.1.2.2.2.1 j kj).2 x y; omega)]
            exact hxi
          have w2 : rrR R P i j i = some x := by
            unfold rrR
            rw [if_neg (show ¬ i = j by omega), if_neg (fun y => by rw [hix] at y; have := Option.some.inj y.2; omega)]
            exact hix
          (repeat (refine GW.pl rfl rfl ?_))
          refine GW.c1 rfl rfl (by first | exact Or.inl rfl | exact Or.inr (grecv_at (by assumption)) | exact Or.inr (grecv_c (by assumption)) | exact Or.inr (grecv_c (SIs.cls (by assumption))) | exact Or.inr (grecv_at (BSb.at (by assumption)))) (by first | exact Or.inl (by decide) | exact Or.inr (gnewv_at (by assumption))) rfl (G_tmPr h4.2.2.1 (some x) (some i) (vld1 kx) w1) ?_; rintro _ _ ⟨rfl, rfl⟩
          refine GW.c1 rfl rfl (by first | exact Or.inl rfl | exact Or.inr (grecv_at (by assumption)) | exact Or.inr (grecv_c (by assumption)) | exact Or.inr (grecv_c (SIs.cls (by assumption))) | exact Or.inr (grecv_at (BSb.at (by assumption)))) (by first | exact Or.inl (by decide) | exact Or.inr (gnewv_at (by assumption))) rfl (G_tmLr h4.2.2.1 (some i) (rrL R L P i j i) (vld1 ki) rfl) ?_; rintro _ _ ⟨rfl, rfl⟩
          (iterate 1 (refine GW.pl rfl rfl ?_))
          refine c35 _ x i _ _ _ _ _ _ kx ?_ h4 w1 w2 hlf4
          (try dsimp only)
          rw [if_neg (show ¬ x = i by omega), if_neg (show ¬ x = j by omega)]
          exact hm
      intro g1 x y lo hi L R P rt kx hm h1 hlf
      obtain ⟨a1, a2, a3, a4, a5, a6⟩ := id h1
      have nA := a3.nat kx
      cases hr : rt with
      | none => exact absurd kx (a1.2.2.2.2.2.1 hr _)
      | some r =>
        have kr := (a1.2.2.2.2.2.2 r hr).1
        (repeat (refine GW.pl rfl rfl ?_))
        refine GW.getr rfl rfl (GHas.at a3.1 rfl) a3.2.2.1 ?_
        rw [hr]
        rw [hr] at h1
        refine GW.aeq rfl (gcan2_at (a3.nat kr) rfl (gok_at nA rfl)) (fun _ => ?_) (fun z => ?_)
        · exact ex _ _ _ _ _ _ _ _ _ kx h1 (fun z => (hlf z).2.2)
        · cases hp : P x with
          | none =>
            have := (a1.2.2.2.2.1 x kx).1 hp
            rw [hr] at this
            exact absurd (by rw [Option.some.inj this]; rfl) z
          | some i =>
            have ki := a1.vP kx i hp
            have hxc := ((a1.2.2.2.2.1 x kx).2 i hp).2
            (repeat (refine GW.pl rfl rfl ?_))
            refine GW.c1 rfl rfl (by first | exact Or.inl rfl | exact Or.inr (grecv_at (by assumption)) | exact Or.inr (grecv_c (by assumption)) | exact Or.inr (grecv_c (SIs.cls (by assumption))) | exact Or.inr (grecv_at (BSb.at (by assumption)))) (by first | exact Or.inl (by decide) | exact Or.inr (gnewv_at (by assumption))) rfl (G_tmC a3 (o := some x) (vld1 kx) a4) ?_; rintro _ _ ⟨rfl, rfl⟩
            (repeat (refine GW.pl rfl rfl ?_))
            refine GW.br rfl rfl (by rcases clr_R (o := some x) a4 (vld1 kx) with z | z <;> rw [z] <;> decide) (fun _ => ?_) (fun _ => ?_)
            · exact ex _ _ _ _ _ _ _ _ _ kx h1 (fun z => (hlf z).2.2)
            · (repeat (refine GW.pl rfl rfl ?_))
              refine GW.c1 rfl rfl (by first | exact Or.inl rfl | exact Or.inr (grecv_at (by assumption)) | exact Or.inr (grecv_c (by assumption)) | exact Or.inr (grecv_c (SIs.cls (by assumption))) | exact Or.inr (grecv_at (BSb.at (by assumption)))) (by first | exact Or.inl (by decide) | exact Or.inr (gnewv_at (by assumption))) rfl (G_tmPr a3 (some x) (some i) (vld1 kx) hp) ?_; rintro _ _ ⟨rfl, rfl⟩
              refine GW.c1 rfl rfl (by first | exact Or.inl rfl | exact Or.inr (grecv_at (by assumption)) | exact Or.inr (grecv_c (by assumption)) | exact Or.inr (grecv_c (SIs.cls (by assumption))) | exact Or.inr (grecv_at (BSb.at (by assumption)))) (by first | exact Or.inl (by decide) | exact Or.inr (gnewv_at (by assumption))) rfl (G_tmLr a3 (some i) (L i) (vld1 ki) rfl) ?_; rintro _ _ ⟨rfl, rfl⟩
              refine GW.ane rfl (gcan2_at2 nA rfl (a3.gok (a1.vL ki))) (fun hne => ?_) (fun heq => ?_)
              · have hxr : R i = some x := hxc.resolve_left (fun z => hne (by rw [z]; rfl))
                exact c13 _ x i _ _ _ _ _ _ _ kx hm h1 hp hxr hlf
              · have hxl : L i = some x := a3.inj (a1.vL ki) kx heq.symm
                exact b13 _ x i _ _ _ _ _ _ _ kx hm h1 hp hxl hlf
  refine GM.of rfl rfl rfl ?_
  have bx := h.1.1 x kx
  exact loop 130 g x none lo hi L R P rt kx (by omega) h hlf
end Td
