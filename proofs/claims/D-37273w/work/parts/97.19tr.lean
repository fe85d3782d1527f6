set_option maxRecDepth 100000
/-! TREEMAP: rotateRight (printed from rotateLeft, mirrored) -/
section Tm
variable {d : Nat} {g : GH} {t : Nat} {K : Int → Prop} {N : Int → Nat} {ky : Int → Int} {vl : Int → Nat} {lo hi : Int → Int} {L R P : Int → Option Int} {rt : Option Int}
/-- rotateRight at i, whose left child is j -/
theorem G_rotR (H : TSh K lo hi L R P rt) (h : TLk g t K N ky vl L R P rt) {i j : Int} (ki : K i) (hj : L i = some j) : GMr (d + 1) gk_J5_rotateRight [aR t, aR (N i)] g (fun r g' => r = none ∧ Kp g g' (TmS t K N) 0 ∧ TLk g' t K N ky vl (rrL R L P i j) (rrR R P i j) (rrP R P i j) (rrRt P rt i j) ∧ ∀ F n, gfi g' F n = gfi g F n) := by
  have kj := H.vL ki j hj
  have hij : i ≠ j := fun z => by have := H.1 j kj; have := (H.2.2.1 i ki).2 j hj; omega
  have sN : ∀ k, K k → TmS t K N (N k) := fun k hk => Or.inr ⟨k, hk, rfl⟩
  -- from 41 on
  have fin : ∀ (g1 : GH) (R1 L1 P1 : Int → Option Int) (rt1 : Option Int), TLk g1 t K N ky vl L1 R1 P1 rt1 → Kp g g1 (TmS t K N) 0 → (∀ F n, gfi g1 F n = gfi g F n) → (∀ a, K a → (if a = j then some i else R1 a) = rrR R P i j a) → (∀ a, K a → L1 a = rrL R L P i j a) → (∀ a, K a → (if a = i then some j else P1 a) = rrP R P i j a) → rt1 = rrRt P rt i j → GW d gm_J5_rotateRight 41 [some (aR t), some (aR (N i)), some (aR (N j))] [] g1 (fun r g' => ∃ v, r = .inl v ∧ v = none ∧ Kp g g' (TmS t K N) 0 ∧ TLk g' t K N ky vl (rrL R L P i j) (rrR R P i j) (rrP R P i j) (rrRt P rt i j) ∧ ∀ F n, gfi g' F n = gfi g F n) := by
    intro g1 R1 L1 P1 rt1 h1 hK hF e1 e2 e3 e4
    (repeat (refine GW.pl rfl rfl ?_))
    refine GW.putr rfl rfl (h1.nat kj) rfl ?_
    have h2 := h1.setR kj (some i)
    (repeat (refine GW.pl rfl rfl ?_))
    refine GW.putr rfl rfl (h2.nat ki) rfl ?_
    have h3 := h2.setP ki (some j)
    exact GW.ret rfl rfl ⟨_, rfl, rfl, hK.tr ((Kp.fr (S := TmS t K N) rfl (sN j kj)).tr (Kp.fr rfl (sN i ki))), h3.congr e2 e1 e3 e4, hF⟩
  -- from 16 on
  have mid : ∀ (g1 : GH) (P1 : Int → Option Int), TLk g1 t K N ky vl (fun a => if a = i then R j else L a) R P1 rt → Kp g g1 (TmS t K N) 0 → (∀ F n, gfi g1 F n = gfi g F n) → (∀ a, P1 a = if R j = some a then some i else P a) → GW d gm_J5_rotateRight 16 [some (aR t), some (aR (N i)), some (aR (N j))] [] g1 (fun r g' => ∃ v, r = .inl v ∧ v = none ∧ Kp g g' (TmS t K N) 0 ∧ TLk g' t K N ky vl (rrL R L P i j) (rrR R P i j) (rrP R P i j) (rrRt P rt i j) ∧ ∀ F n, gfi g' F n = gfi g F n) := by
    intro g1 P1 h1 hK hF eP
    have nLi : R j ≠ some i := fun z => by have := (H.2.2.2.1 j kj).2 i z; have := (H.2.2.1 i ki).2 j hj; have := H.1 i ki; have := H.1 j kj; omega
    have ePi : P1 i = P i := by rw [eP, if_neg nLi]
    (repeat (refine GW.pl rfl rfl ?_))
    refine GW.getr rfl rfl (GHas.at (h1.nat ki) rfl) (h1.fP ki) ?_
    rw [ePi]
    refine GW.putr rfl rfl (h1.nat kj) rfl ?_
    have h2 := h1.setP kj (P i)
    have ePi2 : (if i = j then P i else P1 i) = P i := by rw [if_neg hij, ePi]
    have hK2 : Kp g (gsfr g1 132 (N j) ((P i).map N)) (TmS t K N) 0 := hK.tr (Kp.fr rfl (sN j kj))
    have eP2 : ∀ a, K a → (if a = i then some j else (if a = j then P i else P1 a)) = rrP R P i j a := by
      intro a _
      unfold rrP
      rw [eP]
    (repeat (refine GW.pl rfl rfl ?_))
    refine GW.getr rfl rfl (GHas.at (h2.nat ki) rfl) (h2.fP ki) ?_
    (try dsimp only)
    rw [ePi2]
    cases hp : P i with
    | none =>
      refine GW.nul rfl rfl rfl ?_
      rw [hp] at h2 hK2
      (repeat (refine GW.pl rfl rfl ?_))
      refine GW.putr rfl rfl h2.1 rfl ?_
      have h3 := h2.setT (some j)
      (iterate 1 (refine GW.pl rfl rfl ?_))
      refine fin _ _ _ _ _ h3 (hK2.tr (Kp.fr rfl (Or.inl rfl))) hF (fun a _ => ?_) (fun a _ => ?_) (fun a ha => ?_) ?_
      · unfold rrR
        rw [hp, if_neg (show ¬ ((none : Option Int) = some a ∧ R a = some i) from fun z => by cases z.1)]
      · unfold rrL
        rw [hp, if_neg (show ¬ ((none : Option Int) = some a ∧ R a ≠ some i) from fun z => by cases z.1)]
      · have := eP2 a ha
        rw [hp] at this
        exact this
      · unfold rrRt; rw [if_pos hp]
    | some p =>
      have kp := H.vP ki p hp
      have hpc := (H.2.2.2.2.1 i ki).2 p hp
      have hpi : p ≠ i := fun z => by
        have b := H.1 i ki
        rcases hpc.2 with y | y
        · have := (H.2.2.1 p kp).2 i y; omega
        · have := (H.2.2.2.1 p kp).2 i y; omega
      have hpj : p ≠ j := fun z => by
        have b := H.1 i ki
        have := (H.2.2.1 i ki).2 j hj
        have b2 := H.1 j kj
        rcases hpc.2 with y | y
        · have := (H.2.2.1 p kp).2 i y; omega
        · have := (H.2.2.2.1 p kp).2 i y; omega
      have h2' := h2
      rw [hp] at h2 hK2
      refine GW.nul rfl rfl (gok_at (h2.nat kp) rfl) ?_
      (repeat (refine GW.pl rfl rfl ?_))
      refine GW.getr rfl rfl (GHas.at (h2.nat ki) rfl) (h2.fP ki) ?_
      (try dsimp only)
      have ePi3 : (if i = j then some p else P1 i) = some p := by rw [if_neg hij, ePi, hp]
      rw [ePi3]
      refine GW.getr rfl rfl (GHas.at (h2.nat kp) rfl) (h2.fR kp) ?_
      (repeat (refine GW.pl rfl rfl ?_))
      refine GW.ane rfl (gcan2_at (h2.nat ki) rfl (h2.gok (H.vR kp))) (fun z => ?_) (fun z => ?_)
      · (repeat (refine GW.pl rfl rfl ?_))
        refine GW.getr rfl rfl (GHas.at (h2.nat ki) rfl) (h2.fP ki) ?_
        (try dsimp only)
        rw [ePi3]
        (repeat (refine GW.pl rfl rfl ?_))
        refine GW.putr rfl rfl (h2.nat kp) rfl ?_
        have h3 := h2.setL kp (some j)
        have nl : R p ≠ some i := fun y => z (by rw [y]; rfl)
        refine fin _ _ _ _ _ h3 (hK2.tr (Kp.fr rfl (sN p kp))) hF (fun a _ => ?_) (fun a _ => ?_) (fun a ha => ?_) ?_
        · unfold rrR
          rw [hp, if_neg (show ¬ (some p = some a ∧ R a = some i) from fun y => nl (by rw [Option.some.inj y.1]; exact y.2))]
        · unfold rrL
          rw [hp]
          by_cases c : a = p
          · rw [if_pos c, if_neg (show ¬ a = i by rw [c]; exact hpi), if_pos ⟨by rw [c], by rw [c]; exact nl⟩]
          · rw [if_neg c, if_neg (show ¬ (some p = some a ∧ R a ≠ some i) from fun y => c (Option.some.inj y.1).symm)]
        · have := eP2 a ha
          rw [hp] at this
          exact this
        · unfold rrRt; rw [if_neg (by rw [hp]; exact fun y => by cases y)]
      · have yl : R p = some i := h2.inj (H.vR kp) ki z
        (repeat (refine GW.pl rfl rfl ?_))
        refine GW.getr rfl rfl (GHas.at (h2.nat ki) rfl) (h2.fP ki) ?_
        (try dsimp only)
        rw [ePi3]
        (repeat (refine GW.pl rfl rfl ?_))
        refine GW.putr rfl rfl (h2.nat kp) rfl ?_
        have h3 := h2.setR kp (some j)
        (iterate 1 (refine GW.pl rfl rfl ?_))
        refine fin _ _ _ _ _ h3 (hK2.tr (Kp.fr rfl (sN p kp))) hF (fun a _ => ?_) (fun a _ => ?_) (fun a ha => ?_) ?_
        · unfold rrR
          rw [hp]
          by_cases c : a = j
          · rw [if_pos c, if_pos c]
          · rw [if_neg c, if_neg c]
            by_cases c2 : a = p
            · rw [if_pos c2, if_pos ⟨by rw [c2], by rw [c2]; exact yl⟩]
            · rw [if_neg c2, if_neg (show ¬ (some p = some a ∧ R a = some i) from fun y => c2 (Option.some.inj y.1).symm)]
        · unfold rrL
          rw [hp, if_neg (show ¬ (some p = some a ∧ R a ≠ some i) from fun y => y.2 (by rw [← Option.some.inj y.1]; exact yl))]
        · have := eP2 a ha
          rw [hp] at this
          exact this
        · unfold rrRt; rw [if_neg (by rw [hp]; exact fun y => by cases y)]
  refine GM.of rfl rfl rfl ?_
  (repeat (refine GW.pl rfl rfl ?_))
  refine GW.nul rfl rfl (gok_at (h.nat ki) rfl) ?_
  (repeat (refine GW.pl rfl rfl ?_))
  refine GW.getr rfl rfl (GHas.at (h.nat ki) rfl) (h.fL ki) ?_
  rw [hj]
  (repeat (refine GW.pl rfl rfl ?_))
  refine GW.getr rfl rfl (GHas.at (h.nat kj) rfl) (h.fR kj) ?_
  refine GW.putr rfl rfl (h.nat ki) rfl ?_
  have h1 := h.setL ki (R j)
  have hK1 : Kp g (gsfr g 130 (N i) ((R j).map N)) (TmS t K N) 0 := Kp.fr rfl (sN i ki)
  (repeat (refine GW.pl rfl rfl ?_))
  refine GW.getr rfl rfl (GHas.at (h1.nat kj) rfl) (h1.fR kj) ?_
  cases hc : R j with
  | none =>
    refine GW.nul rfl rfl rfl ?_
    rw [hc] at h1 hK1
    exact mid _ P (h1.congr (fun a _ => by rw [hc]) (fun _ _ => rfl) (fun _ _ => rfl) rfl) hK1 (fun _ _ => rfl) (fun a => by rw [hc, if_neg (show ¬ ((none : Option Int) = some a) from fun z => by cases z)])
  | some c =>
    have kc := H.vR kj c hc
    rw [hc] at h1 hK1
    refine GW.nul rfl rfl (gok_at (h1.nat kc) rfl) ?_
    (repeat (refine GW.pl rfl rfl ?_))
    refine GW.getr rfl rfl (GHas.at (h1.nat kj) rfl) (h1.fR kj) ?_
    rw [hc]
    (repeat (refine GW.pl rfl rfl ?_))
    refine GW.putr rfl rfl (h1.nat kc) rfl ?_
    have h2 := h1.setP kc (some i)
    refine mid _ _ (h2.congr (fun a _ => by rw [hc]) (fun _ _ => rfl) (fun _ _ => rfl) rfl) (hK1.tr (Kp.fr rfl (sN c kc))) (fun _ _ => rfl) (fun a => ?_)
    rw [hc]
    by_cases z : a = c
    · rw [if_pos z, if_pos (by rw [z])]
    · rw [if_neg z, if_neg (fun y => z (Option.some.inj y).symm)]
end Tm
