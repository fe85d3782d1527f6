set_option maxRecDepth 100000
/-! TREEMAP: put, putIfAbsent -/
theorem GW.strS {d i a : Nat} {b : Int} {M : GMeth} {ls ls' : GL} {st : List GV} {g : GH} {Q : GO → GH → Prop} {r : Option Nat} (hC : M.2.2.1[i]? = some (4, a, b)) (hl : Nat.ble (a + 1) ls.length = true) (hs : glset ls a (.inr (.inr r)) = ls') (k : GW d M (i + 1) ls' st g Q) : GW d M i ls (.inr (.inr r) :: st) g Q := by
  subst hs; exact GW.str hC hl k
theorem GW.imp {d i : Nat} {M : GMeth} {ls : GL} {st : List GV} {g : GH} {Q Q' : GO → GH → Prop} (h : GW d M i ls st g Q) (hq : ∀ r g', Q r g' → Q' r g') : GW d M i ls st g Q' := fun hW => by
  obtain ⟨n, r, g', a, b, c⟩ := h hW
  exact ⟨n, r, g', a, b, hq _ _ c⟩
section Tt
variable {d : Nat} {g : GH} {t : Nat} {M : Int → Option Nat} {N : Int → Nat}
theorem Kd_same {x : Int} {v : Nat} (h : Kd M x) : Kd (upM M x (some v)) = Kd M := by
  rw [Kd_up]
  funext k
  exact propext ⟨fun z => z.elim id (fun e => e ▸ h), Or.inl⟩
theorem G_tmPut {x : Int} {v : Nat} {b : Int} (h : TMs g t M N) (hx : 0 ≤ x ∧ x < 128) (hv : gokO g (some v) = true) (hm : gfi g 124 t < 2147483646) (hb : b = 0 ∨ b = 1) : GMr (d + 6) gk_J5_put [aR t, aR (x + 128).toNat, aR v, aI b] g (fun r g' => r = vR (M x) ∧ ((b = 1 ∨ M x = none) → TmQ g g' t M N x v) ∧ (¬ (b = 1 ∨ M x = none) → g' = g)) := by
  refine GMr.wf (fun hW => ?_)
  have hh := h
  obtain ⟨lo, hi, L, R, P, rt, h1, h2, h3, h4, h5, h6⟩ := h
  have hkx := key_is hW hx
  have kA := hkx.1
  have tA := h3.1
  -- there is an entry
  have found : ∀ (e4 e5 e6 : Option GV) , Kd M x → GW (d + 5) gm_J5_put 76 [some (aR t), some (aR (x + 128).toNat), some (aR v), some (aI b), some (aR (N x)), e5, e6, some (aQ none), some (aR (x + 128).toNat), none] [] g (fun r g' => ∃ w, r = .inl w ∧ w = vR (M x) ∧ ((b = 1 ∨ M x = none) → TmQ g g' t M N x v) ∧ (¬ (b = 1 ∨ M x = none) → g' = g)) := by
    intro e4 e5 e6 kx
    have nA := h3.nat kx
    cases hz : M x with
    | none => exact absurd hz kx
    | some w =>
      have ev : gfr g 129 (N x) = some w := by
        have := (h3.2.2.2.1 x kx).2.2.1
        unfold vd at this
        rw [hz] at this
        exact this
      have wO : gokO g (some w) = true := by
        have := h3.2.2.2.2.2.1 x kx
        unfold vd at this
        rw [hz] at this
        exact this
      (repeat (refine GW.pl rfl rfl ?_))
      refine GW.getr rfl rfl (GHas.at nA rfl) ev ?_
      refine GW.str rfl rfl ?_
      (repeat (refine GW.pl rfl rfl ?_))
      have setv : GW (d + 5) gm_J5_put 83 [some (aR t), some (aR (x + 128).toNat), some (aR v), some (aI b), some (aR (N x)), e5, e6, some (aQ none), some (aR (x + 128).toNat), some (aR w)] [] g (fun r g' => ∃ w', r = .inl w' ∧ w' = vR (some w) ∧ TmQ g g' t M N x v) := by
        (repeat (refine GW.pl rfl rfl ?_))
        refine GW.putr rfl rfl nA rfl ?_
        (repeat (refine GW.pl rfl rfl ?_))
        refine GW.aret rfl rfl ⟨_, rfl, rfl, N, ?_, ⟨lo, hi, L, R, P, rt, ?_, ?_, ⟨tA, ?_, ?_, fun k hk => ?_, ?_, fun k hk => ?_, ?_⟩, ?_, h5, h6⟩, fun _ _ => rfl, fun z => (by rw [hz] at z; cases z), fun _ => rfl, Int.le_refl _, ?_⟩
        · exact (Kp.fr rfl (Or.inr ⟨x, kx, rfl⟩)).le (by omega)
        · rw [Kd_same kx]; exact h1
        · rw [Kd_same kx]; exact h2
        · simp only [gfr_sfr, gfr_sfi, gfi_sfi, gfi_sfr, Nat.reduceEqDiff, false_and, true_and, and_true, reduceIte]
          exact h3.2.1
        · simp only [gfr_sfr, gfr_sfi, gfi_sfi, gfi_sfr, Nat.reduceEqDiff, false_and, true_and, and_true, reduceIte]
          exact h3.2.2.1
        · rw [Kd_same kx] at hk
          obtain ⟨b1, b2, b3, b4, b5, b6⟩ := h3.2.2.2.1 k hk
          refine ⟨b1, ?_, ?_, ?_, ?_, ?_⟩
          · simp only [gfr_sfr, gfr_sfi, gfi_sfi, gfi_sfr, Nat.reduceEqDiff, false_and, true_and, and_true, reduceIte]
            exact b2
          · by_cases c : k = x
            · subst c
              simp only [gfr_sfr, gfr_sfi, gfi_sfi, gfi_sfr, Nat.reduceEqDiff, false_and, true_and, and_true, reduceIte]
              unfold vd upM; rw [if_pos rfl]; rfl
            · have hne : N k ≠ N x := fun z => c (h3.2.2.2.2.1 k x hk kx z)
              simp only [gfr_sfr, gfr_sfi, gfi_sfi, gfi_sfr, Nat.reduceEqDiff, false_and, true_and, and_true, reduceIte, hne]
              rw [b3]
              unfold vd upM; rw [if_neg c]
          · simp only [gfr_sfr, gfr_sfi, gfi_sfi, gfi_sfr, Nat.reduceEqDiff, false_and, true_and, and_true, reduceIte]
            exact b4
          · simp only [gfr_sfr, gfr_sfi, gfi_sfi, gfi_sfr, Nat.reduceEqDiff, false_and, true_and, and_true, reduceIte]
            exact b5
          · simp only [gfr_sfr, gfr_sfi, gfi_sfi, gfi_sfr, Nat.reduceEqDiff, false_and, true_and, and_true, reduceIte]
            exact b6
        · rw [Kd_same kx]; exact h3.2.2.2.2.1
        · rw [Kd_same kx] at hk
          by_cases c : k = x
          · have e : vd (upM M x (some v)) k = v := by unfold vd upM; rw [if_pos c]; rfl
            rw [e]; exact hv
          · have e : vd (upM M x (some v)) k = vd M k := by unfold vd upM; rw [if_neg c]
            rw [e]; exact h3.2.2.2.2.2.1 k hk
        · rw [Kd_same kx]; exact h3.2.2.2.2.2.2
        · rw [Kd_same kx]; exact h4
        · show gfi g 124 t ≤ _; omega
      rcases hb with rfl | rfl
      · refine GW.br rfl rfl (by first | omega | decide | (constructor <;> first | omega | decide)) (fun h10 => by first | (exfalso; omega) | exact absurd h10 (by decide)) (fun h10 => ?_)
        (repeat (refine GW.pl rfl rfl ?_))
        refine GW.nul rfl rfl (gokO.gok wO) ?_
        (repeat (refine GW.pl rfl rfl ?_))
        exact GW.aret rfl rfl ⟨_, rfl, rfl, fun z => (by rcases z with z | z <;> cases z), fun _ => rfl⟩
      · refine GW.br rfl rfl (by first | omega | decide | (constructor <;> first | omega | decide)) (fun h10 => ?_) (fun h10 => by first | (exfalso; omega) | exact absurd h10 (by decide))
        exact setv.imp (fun r g' ⟨w', q1, q2, q3⟩ => ⟨w', q1, q2, fun _ => q3, fun z => absurd (Or.inl rfl) z⟩)
  -- there is none below p on that side
  have fresh : ∀ (p : Int) (e5 e6 e8 : Option GV) (c : Int), inR c → Kd M p → M x = none → (c < 0 ∧ L p = none ∧ lo p < x ∧ x < p ∨ 0 ≤ c ∧ R p = none ∧ p < x ∧ x < hi p) → GW (d + 5) gm_J5_put 90 [some (aR t), some (aR (x + 128).toNat), some (aR v), some (aI b), some (aQ none), some (aI c), some (aR (N p)), e5, e6, e8] [] g (fun r g' => ∃ w, r = .inl w ∧ w = vR (M x) ∧ ((b = 1 ∨ M x = none) → TmQ g g' t M N x v) ∧ (¬ (b = 1 ∨ M x = none) → g' = g)) := by
    intro p e5 e6 e8 c cR kp hn hc
    have fin : ∀ z : Int, (z = 1 ∧ L p = none ∧ lo p < x ∧ x < p ∨ z = 0 ∧ R p = none ∧ p < x ∧ x < hi p) → GW (d + 5) gm_J5_put 99 [some (aR t), some (aR (x + 128).toNat), some (aR v), some (aI b), some (aQ none), some (aI c), some (aR (N p)), e5, e6, e8] [aI z, aR (N p), aR v, aR (x + 128).toNat, aR t] g (fun r g' => ∃ w, r = .inl w ∧ w = vR (M x) ∧ ((b = 1 ∨ M x = none) → TmQ g g' t M N x v) ∧ (¬ (b = 1 ∨ M x = none) → g' = g)) := by
      intro z hz
      refine GW.c5 rfl rfl (by first | exact Or.inl rfl | exact Or.inr (grecv_at (by assumption)) | exact Or.inr (grecv_c (by assumption)) | exact Or.inr (grecv_c (SIs.cls (by assumption))) | exact Or.inr (grecv_at (BSb.at (by assumption)))) (by first | exact Or.inl (by decide) | exact Or.inr (gnewv_at (by assumption))) rfl (G_tmAddE h1 h2 h3 h4 ⟨h5, h6⟩ hm hn hx hv kp hz) ?_
      rintro _ g1 ⟨rfl, hQ⟩
      (repeat (refine GW.pl rfl rfl ?_))
      rw [hn]
      exact GW.aret rfl rfl ⟨_, rfl, rfl, fun _ => hQ, fun z => absurd (Or.inr rfl) z⟩
    (repeat (refine GW.pl rfl rfl ?_))
    refine GW.br rfl rfl cR (fun h9 => ?_) (fun h9 => ?_)
    · (iterate 1 (refine GW.pl rfl rfl ?_))
      exact fin 0 (Or.inr ⟨rfl, by rcases hc with y | y; omega; exact y.2⟩)
    · (iterate 2 (refine GW.pl rfl rfl ?_))
      exact fin 1 (Or.inl ⟨rfl, by rcases hc with y | y; exact y.2; omega⟩)
  have loop : ∀ (m : Nat) (p : Int) (e5 e6 : Option GV), (e5 = none ∨ ∃ z, e5 = some (aI z)) → Kd M p → hi p - lo p ≤ m → lo p < x → x < hi p → GW (d + 5) gm_J5_put 57 [some (aR t), some (aR (x + 128).toNat), some (aR v), some (aI b), some (aR (N p)), e5, e6, some (aQ none), some (aR (x + 128).toNat), none] [] g (fun r g' => ∃ w, r = .inl w ∧ w = vR (M x) ∧ ((b = 1 ∨ M x = none) → TmQ g g' t M N x v) ∧ (¬ (b = 1 ∨ M x = none) → g' = g)) := by
    intro m
    induction m with
    | zero =>
      intro p e5 e6 he kp hm
      have := h1.1 p kp
      omega
    | succ m ih =>
      intro p e5 e6 he kp hm q1 q2
      have bp := h1.1 p kp
      have nA := h3.nat kp
      have bk : 0 ≤ p ∧ p < 128 := h3.2.2.2.2.2.2 p kp
      have pk : IIs g (p + 128).toNat p := key_is hW bk
      have cR : inR (cmp9 x p) := by unfold cmp9; split <;> (try split) <;> decide
      (iterate 1 (refine GW.pl rfl rfl ?_))
      refine GW.strS (ls' := [some (aR t), some (aR (x + 128).toNat), some (aR v), some (aI b), some (aR (N p)), e5, some (aR (N p)), some (aQ none), some (aR (x + 128).toNat), none]) rfl rfl (by rcases he with rfl | ⟨z, rfl⟩ <;> rfl) ?_
      (repeat (refine GW.pl rfl rfl ?_))
      refine GW.getr rfl rfl (GHas.at nA rfl) (h3.2.2.2.1 p kp).2.1 ?_
      refine GW.c2 rfl rfl (by first | exact Or.inl rfl | exact Or.inr (grecv_at (by assumption)) | exact Or.inr (grecv_c (by assumption)) | exact Or.inr (grecv_c (SIs.cls (by assumption))) | exact Or.inr (grecv_at (BSb.at (by assumption)))) (by first | exact Or.inl (by decide) | exact Or.inr (gnewv_at (by assumption))) rfl (G_icmp hkx pk) ?_; rintro _ _ ⟨rfl, rfl⟩
      refine GW.sti rfl rfl ?_
      (repeat (refine GW.pl rfl rfl ?_))
      refine GW.br rfl rfl cR (fun hc => ?_) (fun hc => ?_)
      · (repeat (refine GW.pl rfl rfl ?_))
        refine GW.br rfl rfl cR (fun hc2 => ?_) (fun hc2 => ?_)
        · have hxp : x = p := by unfold cmp9 at hc hc2; split at hc <;> (try split at hc2) <;> omega
          subst hxp
          exact found none _ _ kp
        · have hxp : p < x := by unfold cmp9 at hc hc2; split at hc <;> (try split at hc2) <;> omega
          (repeat (refine GW.pl rfl rfl ?_))
          refine GW.getr rfl rfl (GHas.at nA rfl) (h3.fR kp) ?_
          (iterate 3 (refine GW.pl rfl rfl ?_))
          cases hR : R p with
          | none =>
            refine GW.nul rfl rfl rfl ?_
            have hn : M x = none := by
              cases hz : M x with
              | none => rfl
              | some w => exact absurd ⟨hxp, q2⟩ ((h1.2.2.2.1 p kp).1 hR x (by unfold Kd; rw [hz]; exact fun z => by cases z))
            exact fresh p _ _ _ _ cR kp hn (Or.inr ⟨hc, hR, hxp, q2⟩)
          | some j =>
            obtain ⟨j1, j2, j3, j4⟩ := (h1.2.2.2.1 p kp).2 j hR
            refine GW.nul rfl rfl (gok_at (h3.nat j1) rfl) ?_
            exact ih j _ _ (Or.inr ⟨_, rfl⟩) j1 (by omega) (by omega) (by omega)
      · have hxp : x < p := by unfold cmp9 at hc; split at hc <;> (try split at hc) <;> omega
        (repeat (refine GW.pl rfl rfl ?_))
        refine GW.getr rfl rfl (GHas.at nA rfl) (h3.fL kp) ?_
        (iterate 3 (refine GW.pl rfl rfl ?_))
        cases hL : L p with
        | none =>
          refine GW.nul rfl rfl rfl ?_
          have hn : M x = none := by
            cases hz : M x with
            | none => rfl
            | some w => exact absurd ⟨q1, hxp⟩ ((h1.2.2.1 p kp).1 hL x (by unfold Kd; rw [hz]; exact fun z => by cases z))
          exact fresh p _ _ _ _ cR kp hn (Or.inl ⟨hc, hL, q1, hxp⟩)
        | some j =>
          obtain ⟨j1, j2, j3, j4⟩ := (h1.2.2.1 p kp).2 j hL
          refine GW.nul rfl rfl (gok_at (h3.nat j1) rfl) ?_
          exact ih j _ _ (Or.inr ⟨_, rfl⟩) j1 (by omega) (by omega) (by omega)
  refine GM.of rfl rfl rfl ?_
  (repeat (refine GW.pl rfl rfl ?_))
  refine GW.getr rfl rfl (GHas.at tA rfl) h3.2.2.1 ?_
  (iterate 2 (refine GW.pl rfl rfl ?_))
  cases hr : rt with
  | none =>
    refine GW.nul rfl rfl rfl ?_
    have he : ∀ k, M k = none := fun k => by
      cases hz : M k with
      | none => rfl
      | some w => exact absurd (show Kd M k by unfold Kd; rw [hz]; exact fun z => by cases z) (h1.2.2.2.2.2.1 hr k)
    (repeat (refine GW.pl rfl rfl ?_))
    refine GW.c3 rfl rfl (by first | exact Or.inl rfl | exact Or.inr (grecv_at (by assumption)) | exact Or.inr (grecv_c (by assumption)) | exact Or.inr (grecv_c (SIs.cls (by assumption))) | exact Or.inr (grecv_at (BSb.at (by assumption)))) (by first | exact Or.inl (by decide) | exact Or.inr (gnewv_at (by assumption))) rfl (G_tmAdd0 hh he (by rw [h3.2.2.1, hr]; rfl) hm hx hv) ?_
    rintro _ g1 ⟨rfl, hQ⟩
    (repeat (refine GW.pl rfl rfl ?_))
    rw [he x]
    exact GW.aret rfl rfl ⟨_, rfl, rfl, fun _ => hQ, fun z => absurd (Or.inr rfl) z⟩
  | some r =>
    obtain ⟨r1, r2, r3, r4⟩ := h1.2.2.2.2.2.2 r hr
    refine GW.nul rfl rfl (gok_at (h3.nat r1) rfl) ?_
    (repeat (refine GW.pl rfl rfl ?_))
    refine GW.getr rfl rfl (GHas.at tA rfl) h3.2.1 ?_
    (iterate 2 (refine GW.pl rfl rfl ?_))
    refine GW.nul rfl rfl rfl ?_
    (repeat (refine GW.pl rfl rfl ?_))
    refine GW.c1 rfl rfl (by first | exact Or.inl rfl | exact Or.inr (grecv_at (by assumption)) | exact Or.inr (grecv_c (by assumption)) | exact Or.inr (grecv_c (SIs.cls (by assumption))) | exact Or.inr (grecv_at (BSb.at (by assumption)))) (by first | exact Or.inl (by decide) | exact Or.inr (gnewv_at (by assumption))) rfl (G_rnn (by rw [kA]; decide)) ?_; rintro _ _ ⟨rfl, rfl⟩
    (repeat (refine GW.pl rfl rfl ?_))
    refine GW.cast rfl (gcast_c kA rfl rfl) ?_
    (iterate 1 (refine GW.pl rfl rfl ?_))
    exact loop 129 r none none (Or.inl rfl) r1 (by omega) (by omega) (by omega)
theorem G_tmPut1 {x : Int} {v : Nat} (h : TMs g t M N) (hx : 0 ≤ x ∧ x < 128) (hv : gokO g (some v) = true) (hm : gfi g 124 t < 2147483646) : GMr (d + 7) gk_J5_put_2 [aR t, aR (x + 128).toNat, aR v] g (fun r g' => r = vR (M x) ∧ TmQ g g' t M N x v) := by
  have tA := h.at
  refine GM.of rfl rfl rfl ?_
  (repeat (refine GW.pl rfl rfl ?_))
  refine GW.c4 rfl rfl (by first | exact Or.inl rfl | exact Or.inr (grecv_at (by assumption)) | exact Or.inr (grecv_c (by assumption)) | exact Or.inr (grecv_c (SIs.cls (by assumption))) | exact Or.inr (grecv_at (BSb.at (by assumption)))) (by first | exact Or.inl (by decide) | exact Or.inr (gnewv_at (by assumption))) rfl (G_tmPut (b := 1) h hx hv hm (Or.inr rfl)) ?_
  rintro _ g1 ⟨rfl, hQ, -⟩
  exact GW.aret rfl rfl ⟨_, rfl, rfl, hQ (Or.inl rfl)⟩
theorem G_tmPutA {x : Int} {v : Nat} (h : TMs g t M N) (hx : 0 ≤ x ∧ x < 128) (hv : gokO g (some v) = true) (hm : gfi g 124 t < 2147483646) : GMr (d + 7) gk_J5_putIfAbsent [aR t, aR (x + 128).toNat, aR v] g (fun r g' => r = vR (M x) ∧ (M x = none → TmQ g g' t M N x v) ∧ (M x ≠ none → g' = g)) := by
  have tA := h.at
  refine GM.of rfl rfl rfl ?_
  (repeat (refine GW.pl rfl rfl ?_))
  refine GW.c4 rfl rfl (by first | exact Or.inl rfl | exact Or.inr (grecv_at (by assumption)) | exact Or.inr (grecv_c (by assumption)) | exact Or.inr (grecv_c (SIs.cls (by assumption))) | exact Or.inr (grecv_at (BSb.at (by assumption)))) (by first | exact Or.inl (by decide) | exact Or.inr (gnewv_at (by assumption))) rfl (G_tmPut (b := 0) h hx hv hm (Or.inl rfl)) ?_
  rintro _ g1 ⟨rfl, hQ, hQ2⟩
  exact GW.aret rfl rfl ⟨_, rfl, rfl, fun z => hQ (Or.inr z), fun z => hQ2 (fun y => y.elim (fun e => by cases e) z)⟩
end Tt
