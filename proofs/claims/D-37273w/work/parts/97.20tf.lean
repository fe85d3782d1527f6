set_option maxRecDepth 100000
/-! TREEMAP: fixAfterInsertion -/
section Tf
variable {d : Nat} {g : GH} {t : Nat} {K : Int → Prop} {N : Int → Nat} {ky : Int → Int} {vl : Int → Nat} {lo hi : Int → Int} {L R P : Int → Option Int} {rt : Option Int}
theorem vld1 {x : Int} (h : K x) : ∀ k, some x = some k → K k := fun k e => Option.some.inj e ▸ h
theorem vld0 : ∀ k, (none : Option Int) = some k → K k := fun k e => (by cases e)
theorem G_tmPr (h : TLk g t K N ky vl L R P rt) (o r : Option Int) (ho : ∀ k, o = some k → K k) (hr : o.bind P = r) : GE (d + 1) gk_J5_parentOf [aQ (o.map N)] g (vR (r.map N)) := hr ▸ G_tmP h ho
theorem G_tmLr (h : TLk g t K N ky vl L R P rt) (o r : Option Int) (ho : ∀ k, o = some k → K k) (hr : o.bind L = r) : GE (d + 1) gk_J5_leftOf [aQ (o.map N)] g (vR (r.map N)) := hr ▸ G_tmL h ho
theorem G_tmRr (h : TLk g t K N ky vl L R P rt) (o r : Option Int) (ho : ∀ k, o = some k → K k) (hr : o.bind R = r) : GE (d + 1) gk_J5_rightOf [aQ (o.map N)] g (vR (r.map N)) := hr ▸ G_tmR h ho
theorem G_rotL0 : GE (d + 1) gk_J5_rotateLeft [aR t, aQ none] g none := by
  refine GM.of rfl rfl rfl ?_
  (repeat (refine GW.pl rfl rfl ?_))
  refine GW.nul rfl rfl rfl ?_
  exact GW.ret rfl rfl ⟨_, rfl, rfl, rfl⟩
theorem G_rotR0 : GE (d + 1) gk_J5_rotateRight [aR t, aQ none] g none := by
  refine GM.of rfl rfl rfl ?_
  (repeat (refine GW.pl rfl rfl ?_))
  refine GW.nul rfl rfl rfl ?_
  exact GW.ret rfl rfl ⟨_, rfl, rfl, rfl⟩
/-- the state of a map while its tree is mended -/
def TFx (g0 g : GH) (t : Nat) (K : Int → Prop) (N : Int → Nat) (ky : Int → Int) (vl : Int → Nat) (lo hi : Int → Int) (L R P : Int → Option Int) (rt : Option Int) : Prop := TSh K lo hi L R P rt ∧ TBd K lo hi ∧ TLk g t K N ky vl L R P rt ∧ clrs g K N ∧ Kp g0 g (TmS t K N) 0 ∧ ∀ F, (F == 133) = false → ∀ n, gfi g F n = gfi g0 F n
theorem clr_R (h : clrs g K N) {o : Option Int} (ho : ∀ k, o = some k → K k) : clr g N o = 0 ∨ clr g N o = 1 := by
  cases o with
  | none => exact Or.inr rfl
  | some k => exact h k (ho k rfl)
theorem clrs.same {g' : GH} (h : clrs g K N) (e : ∀ F n, gfi g' F n = gfi g F n) : clrs g' K N := fun k hk => by rw [e]; exact h k hk
theorem TFx.rotL {g0 g' : GH} {i j : Int} (h : TFx g0 g t K N ky vl lo hi L R P rt) (ki : K i) (hj : R i = some j) (hK : Kp g g' (TmS t K N) 0) (hl : TLk g' t K N ky vl (rlL L P i j) (rlR L R P i j) (rlP L P i j) (rlRt P rt i j)) (e : ∀ F n, gfi g' F n = gfi g F n) :
    TFx g0 g' t K N ky vl (fun a => if a = j then lo i else lo a) (fun a => if a = i then j else hi a) (rlL L P i j) (rlR L R P i j) (rlP L P i j) (rlRt P rt i j) :=
  ⟨h.1.rotL ki hj, TBd.rotL h.1 h.2.1 ki hj, hl, h.2.2.2.1.same e, h.2.2.2.2.1.tr hK, fun F hF n => (e F n).trans (h.2.2.2.2.2 F hF n)⟩
theorem TFx.rotR {g0 g' : GH} {i j : Int} (h : TFx g0 g t K N ky vl lo hi L R P rt) (ki : K i) (hj : L i = some j) (hK : Kp g g' (TmS t K N) 0) (hl : TLk g' t K N ky vl (rrL R L P i j) (rrR R P i j) (rrP R P i j) (rrRt P rt i j)) (e : ∀ F n, gfi g' F n = gfi g F n) :
    TFx g0 g' t K N ky vl (fun a => if a = i then j else lo a) (fun a => if a = j then hi i else hi a) (rrL R L P i j) (rrR R P i j) (rrP R P i j) (rrRt P rt i j) :=
  ⟨h.1.rotR ki hj, TBd.rotR h.1 h.2.1 ki hj, hl, h.2.2.2.1.same e, h.2.2.2.2.1.tr hK, fun F hF n => (e F n).trans (h.2.2.2.2.2 F hF n)⟩
theorem TFx.col {g0 g' : GH} {c : Int} {o : Option Int} (h : TFx g0 g t K N ky vl lo hi L R P rt) (q : Kp g g' (TmS t K N) 0 ∧ TLk g' t K N ky vl L R P rt ∧ (clrs g K N → clrs g' K N) ∧ (∀ F, (F == 133) = false → ∀ n, gfi g' F n = gfi g F n) ∧ ∀ k, K k → gfi g' 133 (N k) = if o = some k then c else gfi g 133 (N k)) : TFx g0 g' t K N ky vl lo hi L R P rt :=
  ⟨h.1, h.2.1, q.2.1, q.2.2.1 h.2.2.2.1, h.2.2.2.2.1.tr q.1, fun F hF n => (q.2.2.2.1 F hF n).trans (h.2.2.2.2.2 F hF n)⟩
theorem gcan2_at2 {r : Nat} {q : Option Nat} {c : Nat} (h : GAt g r c) (hc : (c == 0) = false) (hq : gok g q = true) : gcan2 g (some r) q = true := by
  unfold gcan2
  rw [hq, gok_at h hc]
  cases q with
  | none => simp
  | some n => simp [h.2]
/-- what a mending method leaves -/
def TFq (g0 g : GH) (t : Nat) (K : Int → Prop) (N : Int → Nat) (ky : Int → Int) (vl : Int → Nat) : Prop := ∃ lo hi L R P rt, TFx g0 g t K N ky vl lo hi L R P rt
theorem G_fixI {g0 : GH} (h : TFx g0 g t K N ky vl lo hi L R P rt) {x : Int} (kx : K x) : GMr (d + 2) gk_J5_fixAfterInsertion [aR t, aR (N x)] g (fun r g' => r = none ∧ TFq g0 g' t K N ky vl) := by
  -- the end: the root is black
  have ex : ∀ (g1 : GH) (x y : Option GV) (lo hi : Int → Int) (L R P : Int → Option Int) (rt : Option Int), TFx g0 g1 t K N ky vl lo hi L R P rt → GW (d + 1) gm_J5_fixAfterInsertion 122 [some (aR t), x, y] [] g1 (fun r g' => ∃ v, r = .inl v ∧ v = none ∧ TFq g0 g' t K N ky vl) := by
    intro g1 x y lo hi L R P rt h1
    obtain ⟨a1, a2, a3, a4, a5, a6⟩ := id h1
    cases hr : rt with
    | none => exact absurd kx (a1.2.2.2.2.2.1 hr _)
    | some r =>
      have kr := (a1.2.2.2.2.2.2 r hr).1
      (repeat (refine GW.pl rfl rfl ?_))
      refine GW.getr rfl rfl (GHas.at a3.1 rfl) a3.2.2.1 ?_
      rw [hr]
      (repeat (refine GW.pl rfl rfl ?_))
      refine GW.putz rfl rfl (a3.nat kr) rfl (by decide) ?_
      refine GW.ret rfl rfl ⟨_, rfl, rfl, lo, hi, L, R, P, rt, a1, a2, a3, fun k hk => ?_, a5.tr (Kp.fi rfl (Or.inr ⟨r, kr, rfl⟩)), fun F hF n => (gfi_nf hF).trans (a6 F hF n)⟩
      by_cases z : k = r
      · rw [z]; exact Or.inr gfi_eq
      · rw [show gfi (gsfi g1 133 (N r) 1) 133 (N k) = gfi g1 133 (N k) from gfi_nn (fun y => z (a3.2.2.2.2.1 k r hk kr y))]
        exact a4 k hk
  -- at 3, where x has a black parent or none
  have term : ∀ (g1 : GH) (x : Int) (y : Option GV) (lo hi : Int → Int) (L R P : Int → Option Int) (rt : Option Int), K x → TFx g0 g1 t K N ky vl lo hi L R P rt → (∀ u, P x = some u → gfi g1 133 (N u) = 1) → GW (d + 1) gm_J5_fixAfterInsertion 3 [some (aR t), some (aR (N x)), y] [] g1 (fun r g' => ∃ v, r = .inl v ∧ v = none ∧ TFq g0 g' t K N ky vl) := by
    intro g1 x y lo hi L R P rt kx h1 hb
    obtain ⟨a1, a2, a3, a4, a5, a6⟩ := id h1
    cases hr : rt with
    | none => exact absurd kx (a1.2.2.2.2.2.1 hr _)
    | some r =>
      have kr := (a1.2.2.2.2.2.2 r hr).1
      (repeat (refine GW.pl rfl rfl ?_))
      refine GW.nul rfl rfl (gok_at (a3.nat kx) rfl) ?_
      (repeat (refine GW.pl rfl rfl ?_))
      refine GW.getr rfl rfl (GHas.at a3.1 rfl) a3.2.2.1 ?_
      rw [hr]
      refine GW.aeq rfl (gcan2_at (a3.nat kr) rfl (gok_at (a3.nat kx) rfl)) (fun _ => ?_) (fun z => ?_)
      · rw [hr] at h1
        exact ex _ _ _ _ _ _ _ _ _ h1
      · cases hp : P x with
        | none =>
          have := (a1.2.2.2.2.1 x kx).1 hp
          rw [hr] at this
          exact absurd (by rw [Option.some.inj this]; rfl) z
        | some u =>
          have ku := a1.vP kx u hp
          (repeat (refine GW.pl rfl rfl ?_))
          refine GW.getr rfl rfl (GHas.at (a3.nat kx) rfl) (a3.fP kx) ?_
          rw [hp]
          refine GW.geti rfl rfl (GHas.at (a3.nat ku) rfl) (hb u hp) (fun _ => ?_)
          refine GW.br rfl rfl (by first | omega | decide | (constructor <;> first | omega | decide)) (fun h9 => ?_) (fun h9 => by first | (exfalso; omega) | exact absurd h9 (by decide))
          exact ex _ _ _ _ _ _ _ _ _ h1
  -- the last rotations
  have t56 : ∀ (g1 : GH) (x u w : Int) (y : Option GV) (lo hi : Int → Int) (L R P : Int → Option Int) (rt : Option Int), K x → TFx g0 g1 t K N ky vl lo hi L R P rt → P x = some u → L u = some x → P u = some w → L w = some u → GW (d + 1) gm_J5_fixAfterInsertion 56 [some (aR t), some (aR (N x)), y] [] g1 (fun r g' => ∃ v, r = .inl v ∧ v = none ∧ TFq g0 g' t K N ky vl) := by
    intro g1 x u w y lo hi L R P rt kx h1 hxu hux huw hwu
    have ku := h1.1.vP kx u hxu
    have kw := h1.1.vP ku w huw
    have hwu9 : u ≠ w := fun z => by have := h1.1.1 u ku; have := (h1.1.2.2.1 w kw).2 u hwu; omega
    have hxw : x ≠ w := fun z => by have := h1.1.1 x kx; have := h1.1.1 u ku; have := (h1.1.2.2.1 w kw).2 u hwu; have := (h1.1.2.2.1 u ku).2 x hux; omega
    have hxu9 : x ≠ u := fun z => by have := h1.1.1 x kx; have := (h1.1.2.2.1 u ku).2 x hux; omega
    (repeat (refine GW.pl rfl rfl ?_))
    refine GW.c1 rfl rfl (by first | exact Or.inl rfl | exact Or.inr (grecv_at (by assumption)) | exact Or.inr (grecv_c (by assumption)) | exact Or.inr (grecv_c (SIs.cls (by assumption))) | exact Or.inr (grecv_at (BSb.at (by assumption)))) (by first | exact Or.inl (by decide) | exact Or.inr (gnewv_at (by assumption))) rfl (G_tmPr h1.2.2.1 (some x) (some u) (vld1 kx) hxu) ?_; rintro _ _ ⟨rfl, rfl⟩
    (repeat (refine GW.pl rfl rfl ?_))
    refine GW.c2 rfl rfl (by first | exact Or.inl rfl | exact Or.inr (grecv_at (by assumption)) | exact Or.inr (grecv_c (by assumption)) | exact Or.inr (grecv_c (SIs.cls (by assumption))) | exact Or.inr (grecv_at (BSb.at (by assumption)))) (by first | exact Or.inl (by decide) | exact Or.inr (gnewv_at (by assumption))) rfl (G_tmSC h1.2.2.1 (o := some u) (vld1 ku) (c := 1) (Or.inr rfl)) ?_
    rintro _ g2 ⟨rfl, q2⟩
    have h2 := h1.col q2
    (repeat (refine GW.pl rfl rfl ?_))
    refine GW.c1 rfl rfl (by first | exact Or.inl rfl | exact Or.inr (grecv_at (by assumption)) | exact Or.inr (grecv_c (by assumption)) | exact Or.inr (grecv_c (SIs.cls (by assumption))) | exact Or.inr (grecv_at (BSb.at (by assumption)))) (by first | exact Or.inl (by decide) | exact Or.inr (gnewv_at (by assumption))) rfl (G_tmPr h2.2.2.1 (some x) (some u) (vld1 kx) hxu) ?_; rintro _ _ ⟨rfl, rfl⟩
    refine GW.c1 rfl rfl (by first | exact Or.inl rfl | exact Or.inr (grecv_at (by assumption)) | exact Or.inr (grecv_c (by assumption)) | exact Or.inr (grecv_c (SIs.cls (by assumption))) | exact Or.inr (grecv_at (BSb.at (by assumption)))) (by first | exact Or.inl (by decide) | exact Or.inr (gnewv_at (by assumption))) rfl (G_tmPr h2.2.2.1 (some u) (some w) (vld1 ku) huw) ?_; rintro _ _ ⟨rfl, rfl⟩
    (repeat (refine GW.pl rfl rfl ?_))
    refine GW.c2 rfl rfl (by first | exact Or.inl rfl | exact Or.inr (grecv_at (by assumption)) | exact Or.inr (grecv_c (by assumption)) | exact Or.inr (grecv_c (SIs.cls (by assumption))) | exact Or.inr (grecv_at (BSb.at (by assumption)))) (by first | exact Or.inl (by decide) | exact Or.inr (gnewv_at (by assumption))) rfl (G_tmSC h2.2.2.1 (o := some w) (vld1 kw) (c := 0) (Or.inl rfl)) ?_
    rintro _ g3 ⟨rfl, q3⟩
    have h3 := h2.col q3
    (repeat (refine GW.pl rfl rfl ?_))
    refine GW.c1 rfl rfl (by first | exact Or.inl rfl | exact Or.inr (grecv_at (by assumption)) | exact Or.inr (grecv_c (by assumption)) | exact Or.inr (grecv_c (SIs.cls (by assumption))) | exact Or.inr (grecv_at (BSb.at (by assumption)))) (by first | exact Or.inl (by decide) | exact Or.inr (gnewv_at (by assumption))) rfl (G_tmPr h3.2.2.1 (some x) (some u) (vld1 kx) hxu) ?_; rintro _ _ ⟨rfl, rfl⟩
    refine GW.c1 rfl rfl (by first | exact Or.inl rfl | exact Or.inr (grecv_at (by assumption)) | exact Or.inr (grecv_c (by assumption)) | exact Or.inr (grecv_c (SIs.cls (by assumption))) | exact Or.inr (grecv_at (BSb.at (by assumption)))) (by first | exact Or.inl (by decide) | exact Or.inr (gnewv_at (by assumption))) rfl (G_tmPr h3.2.2.1 (some u) (some w) (vld1 ku) huw) ?_; rintro _ _ ⟨rfl, rfl⟩
    have tA := h3.2.2.1.1
    refine GW.c2 rfl rfl (by first | exact Or.inl rfl | exact Or.inr (grecv_at (by assumption)) | exact Or.inr (grecv_c (by assumption)) | exact Or.inr (grecv_c (SIs.cls (by assumption))) | exact Or.inr (grecv_at (BSb.at (by assumption)))) (by first | exact Or.inl (by decide) | exact Or.inr (gnewv_at (by assumption))) rfl (G_rotR h3.1 h3.2.2.1 kw hwu) ?_
    rintro _ g4 ⟨rfl, hK4, hl4, e4⟩
    have h4 := h3.rotR kw hwu hK4 hl4 e4
    (iterate 1 (refine GW.pl rfl rfl ?_))
    refine term _ x _ _ _ _ _ _ _ kx h4 (fun u' hu' => ?_)
    unfold rrP at hu'
    rw [if_neg hxw, if_neg hxu9, if_neg (fun z => h1.1.lr ku hux z), hxu] at hu'
    cases hu'
    rw [e4, q3.2.2.2.2 u ku, if_neg (fun z => hwu9 (Option.some.inj z).symm), q2.2.2.2.2 u ku, if_pos rfl]
  have t107 : ∀ (g1 : GH) (x u : Int) (y : Option GV) (lo hi : Int → Int) (L R P : Int → Option Int) (rt : Option Int), K x → TFx g0 g1 t K N ky vl lo hi L R P rt → P x = some u → R u = some x → (∀ w, P u = some w → R w = some u) → GW (d + 1) gm_J5_fixAfterInsertion 107 [some (aR t), some (aR (N x)), y] [] g1 (fun r g' => ∃ v, r = .inl v ∧ v = none ∧ TFq g0 g' t K N ky vl) := by
    intro g1 x u y lo hi L R P rt kx h1 hxu hux hw
    have ku := h1.1.vP kx u hxu
    have hxu9 : x ≠ u := fun z => by have := h1.1.1 x kx; have := (h1.1.2.2.2.1 u ku).2 x hux; omega
    (repeat (refine GW.pl rfl rfl ?_))
    refine GW.c1 rfl rfl (by first | exact Or.inl rfl | exact Or.inr (grecv_at (by assumption)) | exact Or.inr (grecv_c (by assumption)) | exact Or.inr (grecv_c (SIs.cls (by assumption))) | exact Or.inr (grecv_at (BSb.at (by assumption)))) (by first | exact Or.inl (by decide) | exact Or.inr (gnewv_at (by assumption))) rfl (G_tmPr h1.2.2.1 (some x) (some u) (vld1 kx) hxu) ?_; rintro _ _ ⟨rfl, rfl⟩
    (repeat (refine GW.pl rfl rfl ?_))
    refine GW.c2 rfl rfl (by first | exact Or.inl rfl | exact Or.inr (grecv_at (by assumption)) | exact Or.inr (grecv_c (by assumption)) | exact Or.inr (grecv_c (SIs.cls (by assumption))) | exact Or.inr (grecv_at (BSb.at (by assumption)))) (by first | exact Or.inl (by decide) | exact Or.inr (gnewv_at (by assumption))) rfl (G_tmSC h1.2.2.1 (o := some u) (vld1 ku) (c := 1) (Or.inr rfl)) ?_
    rintro _ g2 ⟨rfl, q2⟩
    have h2 := h1.col q2
    (repeat (refine GW.pl rfl rfl ?_))
    refine GW.c1 rfl rfl (by first | exact Or.inl rfl | exact Or.inr (grecv_at (by assumption)) | exact Or.inr (grecv_c (by assumption)) | exact Or.inr (grecv_c (SIs.cls (by assumption))) | exact Or.inr (grecv_at (BSb.at (by assumption)))) (by first | exact Or.inl (by decide) | exact Or.inr (gnewv_at (by assumption))) rfl (G_tmPr h2.2.2.1 (some x) (some u) (vld1 kx) hxu) ?_; rintro _ _ ⟨rfl, rfl⟩
    refine GW.c1 rfl rfl (by first | exact Or.inl rfl | exact Or.inr (grecv_at (by assumption)) | exact Or.inr (grecv_c (by assumption)) | exact Or.inr (grecv_c (SIs.cls (by assumption))) | exact Or.inr (grecv_at (BSb.at (by assumption)))) (by first | exact Or.inl (by decide) | exact Or.inr (gnewv_at (by assumption))) rfl (G_tmPr h2.2.2.1 (some u) (P u) (vld1 ku) rfl) ?_; rintro _ _ ⟨rfl, rfl⟩
    (repeat (refine GW.pl rfl rfl ?_))
    refine GW.c2 rfl rfl (by first | exact Or.inl rfl | exact Or.inr (grecv_at (by assumption)) | exact Or.inr (grecv_c (by assumption)) | exact Or.inr (grecv_c (SIs.cls (by assumption))) | exact Or.inr (grecv_at (BSb.at (by assumption)))) (by first | exact Or.inl (by decide) | exact Or.inr (gnewv_at (by assumption))) rfl (G_tmSC h2.2.2.1 (o := P u) (h2.1.vP ku) (c := 0) (Or.inl rfl)) ?_
    rintro _ g3 ⟨rfl, q3⟩
    have h3 := h2.col q3
    (repeat (refine GW.pl rfl rfl ?_))
    refine GW.c1 rfl rfl (by first | exact Or.inl rfl | exact Or.inr (grecv_at (by assumption)) | exact Or.inr (grecv_c (by assumption)) | exact Or.inr (grecv_c (SIs.cls (by assumption))) | exact Or.inr (grecv_at (BSb.at (by assumption)))) (by first | exact Or.inl (by decide) | exact Or.inr (gnewv_at (by assumption))) rfl (G_tmPr h3.2.2.1 (some x) (some u) (vld1 kx) hxu) ?_; rintro _ _ ⟨rfl, rfl⟩
    refine GW.c1 rfl rfl (by first | exact Or.inl rfl | exact Or.inr (grecv_at (by assumption)) | exact Or.inr (grecv_c (by assumption)) | exact Or.inr (grecv_c (SIs.cls (by assumption))) | exact Or.inr (grecv_at (BSb.at (by assumption)))) (by first | exact Or.inl (by decide) | exact Or.inr (gnewv_at (by assumption))) rfl (G_tmPr h3.2.2.1 (some u) (P u) (vld1 ku) rfl) ?_; rintro _ _ ⟨rfl, rfl⟩
    have tA := h3.2.2.1.1
    cases huw : P u with
    | none =>
      refine GW.c2 rfl rfl (by first | exact Or.inl rfl | exact Or.inr (grecv_at (by assumption)) | exact Or.inr (grecv_c (by assumption)) | exact Or.inr (grecv_c (SIs.cls (by assumption))) | exact Or.inr (grecv_at (BSb.at (by assumption)))) (by first | exact Or.inl (by decide) | exact Or.inr (gnewv_at (by assumption))) rfl (G_rotL0) ?_; rintro _ _ ⟨rfl, rfl⟩
      (iterate 1 (refine GW.pl rfl rfl ?_))
      refine term _ x _ _ _ _ _ _ _ kx h3 (fun u' hu' => ?_)
      rw [hxu] at hu'
      cases hu'
      rw [q3.2.2.2.2 u ku, huw, if_neg (fun z => by cases z), q2.2.2.2.2 u ku, if_pos rfl]
    | some w =>
      have kw := h1.1.vP ku w huw
      have hwu := hw w huw
      have hwu9 : u ≠ w := fun z => by have := h1.1.1 u ku; have := (h1.1.2.2.2.1 w kw).2 u hwu; omega
      have hxw : x ≠ w := fun z => by have := h1.1.1 x kx; have := h1.1.1 u ku; have := (h1.1.2.2.2.1 w kw).2 u hwu; have := (h1.1.2.2.2.1 u ku).2 x hux; omega
      refine GW.c2 rfl rfl (by first | exact Or.inl rfl | exact Or.inr (grecv_at (by assumption)) | exact Or.inr (grecv_c (by assumption)) | exact Or.inr (grecv_c (SIs.cls (by assumption))) | exact Or.inr (grecv_at (BSb.at (by assumption)))) (by first | exact Or.inl (by decide) | exact Or.inr (gnewv_at (by assumption))) rfl (G_rotL h3.1 h3.2.2.1 kw hwu) ?_
      rintro _ g4 ⟨rfl, hK4, hl4, e4⟩
      have h4 := h3.rotL kw hwu hK4 hl4 e4
      (iterate 1 (refine GW.pl rfl rfl ?_))
      refine term _ x _ _ _ _ _ _ _ kx h4 (fun u' hu' => ?_)
      unfold rlP at hu'
      rw [if_neg hxw, if_neg hxu9, if_neg (fun z => h1.1.lr ku z hux), hxu] at hu'
      cases hu'
      rw [e4, q3.2.2.2.2 u ku, huw, if_neg (fun z => hwu9 (Option.some.inj z).symm), q2.2.2.2.2 u ku, if_pos rfl]
  have loop : ∀ (m : Nat) (g1 : GH) (x : Int) (y : Option GV) (lo hi : Int → Int) (L R P : Int → Option Int) (rt : Option Int), K x → 129 - (hi x - lo x) ≤ m → TFx g0 g1 t K N ky vl lo hi L R P rt → GW (d + 1) gm_J5_fixAfterInsertion 3 [some (aR t), some (aR (N x)), y] [] g1 (fun r g' => ∃ v, r = .inl v ∧ v = none ∧ TFq g0 g' t K N ky vl) := by
    intro m
    induction m with
    | zero =>
      intro g1 x y lo hi L R P rt kx hm h1
      refine term _ x _ _ _ _ _ _ _ kx h1 (fun u hu => ?_)
      exfalso
      obtain ⟨ku, hc⟩ := (h1.1.2.2.2.2.1 x kx).2 u hu
      have bx := h1.1.1 x kx
      have bu := h1.1.1 u ku
      rcases hc with hc | hc
      · have := (h1.1.2.2.1 u ku).2 x hc; omega
      · have := (h1.1.2.2.2.1 u ku).2 x hc; omega
    | succ m ih =>
      intro g1 x y lo hi L R P rt kx hm h1
      obtain ⟨a1, a2, a3, a4, a5, a6⟩ := id h1
      have bx := a1.1 x kx
      cases hr : rt with
      | none => exact absurd kx (a1.2.2.2.2.2.1 hr _)
      | some r =>
        have kr := (a1.2.2.2.2.2.2 r hr).1
        (repeat (refine GW.pl rfl rfl ?_))
        refine GW.nul rfl rfl (gok_at (a3.nat kx) rfl) ?_
        (repeat (refine GW.pl rfl rfl ?_))
        refine GW.getr rfl rfl (GHas.at a3.1 rfl) a3.2.2.1 ?_
        rw [hr]
        refine GW.aeq rfl (gcan2_at (a3.nat kr) rfl (gok_at (a3.nat kx) rfl)) (fun _ => ?_) (fun z => ?_)
        · rw [hr] at h1
          exact ex _ _ _ _ _ _ _ _ _ h1
        · cases hp : P x with
          | none =>
            have := (a1.2.2.2.2.1 x kx).1 hp
            rw [hr] at this
            exact absurd (by rw [Option.some.inj this]; rfl) z
          | some u =>
            have ku := a1.vP kx u hp
            have hxc := ((a1.2.2.2.2.1 x kx).2 u hp).2
            have bu := a1.1 u ku
            (repeat (refine GW.pl rfl rfl ?_))
            refine GW.getr rfl rfl (GHas.at (a3.nat kx) rfl) (a3.fP kx) ?_
            rw [hp]
            refine GW.geti rfl rfl (GHas.at (a3.nat ku) rfl) rfl (fun hcr => ?_)
            refine GW.br rfl rfl hcr (fun _ => ex _ _ _ _ _ _ _ _ _ h1) (fun hred => ?_)
            (repeat (refine GW.pl rfl rfl ?_))
            refine GW.c1 rfl rfl (by first | exact Or.inl rfl | exact Or.inr (grecv_at (by assumption)) | exact Or.inr (grecv_c (by assumption)) | exact Or.inr (grecv_c (SIs.cls (by assumption))) | exact Or.inr (grecv_at (BSb.at (by assumption)))) (by first | exact Or.inl (by decide) | exact Or.inr (gnewv_at (by assumption))) rfl (G_tmPr a3 (some x) (some u) (vld1 kx) hp) ?_; rintro _ _ ⟨rfl, rfl⟩
            (repeat (refine GW.pl rfl rfl ?_))
            refine GW.c1 rfl rfl (by first | exact Or.inl rfl | exact Or.inr (grecv_at (by assumption)) | exact Or.inr (grecv_c (by assumption)) | exact Or.inr (grecv_c (SIs.cls (by assumption))) | exact Or.inr (grecv_at (BSb.at (by assumption)))) (by first | exact Or.inl (by decide) | exact Or.inr (gnewv_at (by assumption))) rfl (G_tmPr a3 (some x) (some u) (vld1 kx) hp) ?_; rintro _ _ ⟨rfl, rfl⟩
            refine GW.c1 rfl rfl (by first | exact Or.inl rfl | exact Or.inr (grecv_at (by assumption)) | exact Or.inr (grecv_c (by assumption)) | exact Or.inr (grecv_c (SIs.cls (by assumption))) | exact Or.inr (grecv_at (BSb.at (by assumption)))) (by first | exact Or.inl (by decide) | exact Or.inr (gnewv_at (by assumption))) rfl (G_tmPr a3 (some u) (P u) (vld1 ku) rfl) ?_; rintro _ _ ⟨rfl, rfl⟩
            have vl : ∀ k, (P u).bind L = some k → K k := fun k hk => by
              cases hw : P u with
              | none => rw [hw] at hk; cases hk
              | some w => rw [hw] at hk; exact a1.vL (a1.vP ku w hw) k hk
            refine GW.c1 rfl rfl (by first | exact Or.inl rfl | exact Or.inr (grecv_at (by assumption)) | exact Or.inr (grecv_c (by assumption)) | exact Or.inr (grecv_c (SIs.cls (by assumption))) | exact Or.inr (grecv_at (BSb.at (by assumption)))) (by first | exact Or.inl (by decide) | exact Or.inr (gnewv_at (by assumption))) rfl (G_tmLr a3 (P u) ((P u).bind L) (a1.vP ku) rfl) ?_; rintro _ _ ⟨rfl, rfl⟩
            refine GW.ane rfl (gcan2_at2 (a3.nat ku) rfl (a3.gok vl)) (fun hne => ?_) (fun heq => ?_)
            · -- the parent is not a left child
              have hnl : ∀ w, P u = some w → R w = some u := fun w hw => by
                rcases ((a1.2.2.2.2.1 u ku).2 w hw).2 with y | y
                · exact absurd (show some (N u) = ((P u).bind L).map N by rw [hw]; show _ = (L w).map N; rw [y]; rfl) hne
                · exact y
              (repeat (refine GW.pl rfl rfl ?_))
              refine GW.c1 rfl rfl (by first | exact Or.inl rfl | exact Or.inr (grecv_at (by assumption)) | exact Or.inr (grecv_c (by assumption)) | exact Or.inr (grecv_c (SIs.cls (by assumption))) | exact Or.inr (grecv_at (BSb.at (by assumption)))) (by first | exact Or.inl (by decide) | exact Or.inr (gnewv_at (by assumption))) rfl (G_tmPr a3 (some x) (some u) (vld1 kx) hp) ?_; rintro _ _ ⟨rfl, rfl⟩
              refine GW.c1 rfl rfl (by first | exact Or.inl rfl | exact Or.inr (grecv_at (by assumption)) | exact Or.inr (grecv_c (by assumption)) | exact Or.inr (grecv_c (SIs.cls (by assumption))) | exact Or.inr (grecv_at (BSb.at (by assumption)))) (by first | exact Or.inl (by decide) | exact Or.inr (gnewv_at (by assumption))) rfl (G_tmPr a3 (some u) (P u) (vld1 ku) rfl) ?_; rintro _ _ ⟨rfl, rfl⟩
              refine GW.c1 rfl rfl (by first | exact Or.inl rfl | exact Or.inr (grecv_at (by assumption)) | exact Or.inr (grecv_c (by assumption)) | exact Or.inr (grecv_c (SIs.cls (by assumption))) | exact Or.inr (grecv_at (BSb.at (by assumption)))) (by first | exact Or.inl (by decide) | exact Or.inr (gnewv_at (by assumption))) rfl (G_tmLr a3 (P u) ((P u).bind L) (a1.vP ku) rfl) ?_; rintro _ _ ⟨rfl, rfl⟩
              refine GW.str rfl rfl ?_
              (repeat (refine GW.pl rfl rfl ?_))
              refine GW.c1 rfl rfl (by first | exact Or.inl rfl | exact Or.inr (grecv_at (by assumption)) | exact Or.inr (grecv_c (by assumption)) | exact Or.inr (grecv_c (SIs.cls (by assumption))) | exact Or.inr (grecv_at (BSb.at (by assumption)))) (by first | exact Or.inl (by decide) | exact Or.inr (gnewv_at (by assumption))) rfl (G_tmC a3 vl a4) ?_; rintro _ _ ⟨rfl, rfl⟩
              refine GW.br rfl rfl (by rcases clr_R a4 vl with z | z <;> rw [z] <;> decide) (fun hbl => ?_) (fun hrd => ?_)
              · (repeat (refine GW.pl rfl rfl ?_))
                refine GW.c1 rfl rfl (by first | exact Or.inl rfl | exact Or.inr (grecv_at (by assumption)) | exact Or.inr (grecv_c (by assumption)) | exact Or.inr (grecv_c (SIs.cls (by assumption))) | exact Or.inr (grecv_at (BSb.at (by assumption)))) (by first | exact Or.inl (by decide) | exact Or.inr (gnewv_at (by assumption))) rfl (G_tmPr a3 (some x) (some u) (vld1 kx) hp) ?_; rintro _ _ ⟨rfl, rfl⟩
                refine GW.c1 rfl rfl (by first | exact Or.inl rfl | exact Or.inr (grecv_at (by assumption)) | exact Or.inr (grecv_c (by assumption)) | exact Or.inr (grecv_c (SIs.cls (by assumption))) | exact Or.inr (grecv_at (BSb.at (by assumption)))) (by first | exact Or.inl (by decide) | exact Or.inr (gnewv_at (by assumption))) rfl (G_tmLr a3 (some u) (L u) (vld1 ku) rfl) ?_; rintro _ _ ⟨rfl, rfl⟩
                refine GW.ane rfl (gcan2_at2 (a3.nat kx) rfl (a3.gok (a1.vL ku))) (fun hne2 => ?_) (fun heq2 => ?_)
                · have hxr : R u = some x := hxc.resolve_left (fun z => hne2 (by rw [z]; rfl))
                  exact t107 _ x u _ _ _ _ _ _ _ kx h1 hp hxr hnl
                · have hxl : L u = some x := a3.inj (a1.vL ku) kx heq2.symm
                  have hux : u ≠ x := by have := (a1.2.2.1 u ku).2 x hxl; omega
                  (repeat (refine GW.pl rfl rfl ?_))
                  refine GW.c1 rfl rfl (by first | exact Or.inl rfl | exact Or.inr (grecv_at (by assumption)) | exact Or.inr (grecv_c (by assumption)) | exact Or.inr (grecv_c (SIs.cls (by assumption))) | exact Or.inr (grecv_at (BSb.at (by assumption)))) (by first | exact Or.inl (by decide) | exact Or.inr (gnewv_at (by assumption))) rfl (G_tmPr a3 (some x) (some u) (vld1 kx) hp) ?_; rintro _ _ ⟨rfl, rfl⟩
                  (repeat (refine GW.pl rfl rfl ?_))
                  have tA := a3.1
                  refine GW.c2 rfl rfl (by first | exact Or.inl rfl | exact Or.inr (grecv_at (by assumption)) | exact Or.inr (grecv_c (by assumption)) | exact Or.inr (grecv_c (SIs.cls (by assumption))) | exact Or.inr (grecv_at (BSb.at (by assumption)))) (by first | exact Or.inl (by decide) | exact Or.inr (gnewv_at (by assumption))) rfl (G_rotR a1 a3 ku hxl) ?_
                  rintro _ g2 ⟨rfl, hK2, hl2, e2⟩
                  have h2 := h1.rotR ku hxl hK2 hl2 e2
                  refine t107 _ u x _ _ _ _ _ _ _ ku h2 ?_ ?_ (fun w hw => ?_)
                  · unfold rrP; rw [if_pos rfl]
                  · unfold rrR; rw [if_pos rfl]
                  · unfold rrP at hw
                    rw [if_neg (fun z => hux z.symm), if_pos rfl] at hw
                    unfold rrR
                    have kw := a1.vP ku w hw
                    have hwx : w ≠ x := fun z => by
                      have := (a1.2.2.2.1 w kw).2 u (hnl w hw)
                      have := (a1.2.2.1 u ku).2 x hxl
                      have := a1.1 w kw
                      omega
                    rw [if_neg hwx, if_pos ⟨hw, hnl w hw⟩]
              · -- the uncle is red
                cases hw : P u with
                | none => rw [hw] at hrd; exact absurd (show (1 : Int) = 0 from hrd) (by decide)
                | some w =>
                  have kw := a1.vP ku w hw
                  have hwu := hnl w hw
                  have bw := a1.1 w kw
                  have cu := (a1.2.2.2.1 w kw).2 u hwu
                  have vy : ∀ k, L w = some k → K k := a1.vL kw
                  (repeat (refine GW.pl rfl rfl ?_))
                  refine GW.c1 rfl rfl (by first | exact Or.inl rfl | exact Or.inr (grecv_at (by assumption)) | exact Or.inr (grecv_c (by assumption)) | exact Or.inr (grecv_c (SIs.cls (by assumption))) | exact Or.inr (grecv_at (BSb.at (by assumption)))) (by first | exact Or.inl (by decide) | exact Or.inr (gnewv_at (by assumption))) rfl (G_tmPr a3 (some x) (some u) (vld1 kx) hp) ?_; rintro _ _ ⟨rfl, rfl⟩
                  (repeat (refine GW.pl rfl rfl ?_))
                  refine GW.c2 rfl rfl (by first | exact Or.inl rfl | exact Or.inr (grecv_at (by assumption)) | exact Or.inr (grecv_c (by assumption)) | exact Or.inr (grecv_c (SIs.cls (by assumption))) | exact Or.inr (grecv_at (BSb.at (by assumption)))) (by first | exact Or.inl (by decide) | exact Or.inr (gnewv_at (by assumption))) rfl (G_tmSC a3 (o := some u) (vld1 ku) (c := 1) (Or.inr rfl)) ?_
                  rintro _ g2 ⟨rfl, q2⟩
                  have h2 := h1.col q2
                  (repeat (refine GW.pl rfl rfl ?_))
                  refine GW.c2 rfl rfl (by first | exact Or.inl rfl | exact Or.inr (grecv_at (by assumption)) | exact Or.inr (grecv_c (by assumption)) | exact Or.inr (grecv_c (SIs.cls (by assumption))) | exact Or.inr (grecv_at (BSb.at (by assumption)))) (by first | exact Or.inl (by decide) | exact Or.inr (gnewv_at (by assumption))) rfl (G_tmSC h2.2.2.1 (o := L w) vy (c := 1) (Or.inr rfl)) ?_
                  rintro _ g3 ⟨rfl, q3⟩
                  have h3 := h2.col q3
                  (repeat (refine GW.pl rfl rfl ?_))
                  refine GW.c1 rfl rfl (by first | exact Or.inl rfl | exact Or.inr (grecv_at (by assumption)) | exact Or.inr (grecv_c (by assumption)) | exact Or.inr (grecv_c (SIs.cls (by assumption))) | exact Or.inr (grecv_at (BSb.at (by assumption)))) (by first | exact Or.inl (by decide) | exact Or.inr (gnewv_at (by assumption))) rfl (G_tmPr h3.2.2.1 (some x) (some u) (vld1 kx) hp) ?_; rintro _ _ ⟨rfl, rfl⟩
                  refine GW.c1 rfl rfl (by first | exact Or.inl rfl | exact Or.inr (grecv_at (by assumption)) | exact Or.inr (grecv_c (by assumption)) | exact Or.inr (grecv_c (SIs.cls (by assumption))) | exact Or.inr (grecv_at (BSb.at (by assumption)))) (by first | exact Or.inl (by decide) | exact Or.inr (gnewv_at (by assumption))) rfl (G_tmPr h3.2.2.1 (some u) (some w) (vld1 ku) hw) ?_; rintro _ _ ⟨rfl, rfl⟩
                  (repeat (refine GW.pl rfl rfl ?_))
                  refine GW.c2 rfl rfl (by first | exact Or.inl rfl | exact Or.inr (grecv_at (by assumption)) | exact Or.inr (grecv_c (by assumption)) | exact Or.inr (grecv_c (SIs.cls (by assumption))) | exact Or.inr (grecv_at (BSb.at (by assumption)))) (by first | exact Or.inl (by decide) | exact Or.inr (gnewv_at (by assumption))) rfl (G_tmSC h3.2.2.1 (o := some w) (vld1 kw) (c := 0) (Or.inl rfl)) ?_
                  rintro _ g4 ⟨rfl, q4⟩
                  have h4 := h3.col q4
                  (repeat (refine GW.pl rfl rfl ?_))
                  refine GW.c1 rfl rfl (by first | exact Or.inl rfl | exact Or.inr (grecv_at (by assumption)) | exact Or.inr (grecv_c (by assumption)) | exact Or.inr (grecv_c (SIs.cls (by assumption))) | exact Or.inr (grecv_at (BSb.at (by assumption)))) (by first | exact Or.inl (by decide) | exact Or.inr (gnewv_at (by assumption))) rfl (G_tmPr h4.2.2.1 (some x) (some u) (vld1 kx) hp) ?_; rintro _ _ ⟨rfl, rfl⟩
                  refine GW.c1 rfl rfl (by first | exact Or.inl rfl | exact Or.inr (grecv_at (by assumption)) | exact Or.inr (grecv_c (by assumption)) | exact Or.inr (grecv_c (SIs.cls (by assumption))) | exact Or.inr (grecv_at (BSb.at (by assumption)))) (by first | exact Or.inl (by decide) | exact Or.inr (gnewv_at (by assumption))) rfl (G_tmPr h4.2.2.1 (some u) (some w) (vld1 ku) hw) ?_; rintro _ _ ⟨rfl, rfl⟩
                  (iterate 3 (refine GW.pl rfl rfl ?_))
                  refine ih _ w _ lo hi L R P rt kw ?_ h4
                  rcases hxc with y | y
                  · have := (a1.2.2.1 u ku).2 x y; omega
                  · have := (a1.2.2.2.1 u ku).2 x y; omega
            · -- the parent is a left child
              cases hw : P u with
              | none => rw [hw] at heq; cases heq
              | some w =>
                have kw := a1.vP ku w hw
                have hwu : L w = some u := a3.inj (a1.vL kw) ku (by rw [hw] at heq; exact heq.symm)
                have bw := a1.1 w kw
                have cu := (a1.2.2.1 w kw).2 u hwu
                have vy : ∀ k, R w = some k → K k := a1.vR kw
                (repeat (refine GW.pl rfl rfl ?_))
                refine GW.c1 rfl rfl (by first | exact Or.inl rfl | exact Or.inr (grecv_at (by assumption)) | exact Or.inr (grecv_c (by assumption)) | exact Or.inr (grecv_c (SIs.cls (by assumption))) | exact Or.inr (grecv_at (BSb.at (by assumption)))) (by first | exact Or.inl (by decide) | exact Or.inr (gnewv_at (by assumption))) rfl (G_tmPr a3 (some x) (some u) (vld1 kx) hp) ?_; rintro _ _ ⟨rfl, rfl⟩
                refine GW.c1 rfl rfl (by first | exact Or.inl rfl | exact Or.inr (grecv_at (by assumption)) | exact Or.inr (grecv_c (by assumption)) | exact Or.inr (grecv_c (SIs.cls (by assumption))) | exact Or.inr (grecv_at (BSb.at (by assumption)))) (by first | exact Or.inl (by decide) | exact Or.inr (gnewv_at (by assumption))) rfl (G_tmPr a3 (some u) (some w) (vld1 ku) hw) ?_; rintro _ _ ⟨rfl, rfl⟩
                refine GW.c1 rfl rfl (by first | exact Or.inl rfl | exact Or.inr (grecv_at (by assumption)) | exact Or.inr (grecv_c (by assumption)) | exact Or.inr (grecv_c (SIs.cls (by assumption))) | exact Or.inr (grecv_at (BSb.at (by assumption)))) (by first | exact Or.inl (by decide) | exact Or.inr (gnewv_at (by assumption))) rfl (G_tmRr a3 (some w) (R w) (vld1 kw) rfl) ?_; rintro _ _ ⟨rfl, rfl⟩
                refine GW.str rfl rfl ?_
                (repeat (refine GW.pl rfl rfl ?_))
                refine GW.c1 rfl rfl (by first | exact Or.inl rfl | exact Or.inr (grecv_at (by assumption)) | exact Or.inr (grecv_c (by assumption)) | exact Or.inr (grecv_c (SIs.cls (by assumption))) | exact Or.inr (grecv_at (BSb.at (by assumption)))) (by first | exact Or.inl (by decide) | exact Or.inr (gnewv_at (by assumption))) rfl (G_tmC a3 vy a4) ?_; rintro _ _ ⟨rfl, rfl⟩
                refine GW.br rfl rfl (by rcases clr_R a4 vy with z | z <;> rw [z] <;> decide) (fun hbl => ?_) (fun hrd => ?_)
                · (repeat (refine GW.pl rfl rfl ?_))
                  refine GW.c1 rfl rfl (by first | exact Or.inl rfl | exact Or.inr (grecv_at (by assumption)) | exact Or.inr (grecv_c (by assumption)) | exact Or.inr (grecv_c (SIs.cls (by assumption))) | exact Or.inr (grecv_at (BSb.at (by assumption)))) (by first | exact Or.inl (by decide) | exact Or.inr (gnewv_at (by assumption))) rfl (G_tmPr a3 (some x) (some u) (vld1 kx) hp) ?_; rintro _ _ ⟨rfl, rfl⟩
                  refine GW.c1 rfl rfl (by first | exact Or.inl rfl | exact Or.inr (grecv_at (by assumption)) | exact Or.inr (grecv_c (by assumption)) | exact Or.inr (grecv_c (SIs.cls (by assumption))) | exact Or.inr (grecv_at (BSb.at (by assumption)))) (by first | exact Or.inl (by decide) | exact Or.inr (gnewv_at (by assumption))) rfl (G_tmRr a3 (some u) (R u) (vld1 ku) rfl) ?_; rintro _ _ ⟨rfl, rfl⟩
                  refine GW.ane rfl (gcan2_at2 (a3.nat kx) rfl (a3.gok (a1.vR ku))) (fun hne2 => ?_) (fun heq2 => ?_)
                  · have hxr : L u = some x := hxc.resolve_right (fun z => hne2 (by rw [z]; rfl))
                    exact t56 _ x u w _ _ _ _ _ _ _ kx h1 hp hxr hw hwu
                  · have hxl : R u = some x := a3.inj (a1.vR ku) kx heq2.symm
                    have hux : u ≠ x := by have := (a1.2.2.2.1 u ku).2 x hxl; omega
                    (repeat (refine GW.pl rfl rfl ?_))
                    refine GW.c1 rfl rfl (by first | exact Or.inl rfl | exact Or.inr (grecv_at (by assumption)) | exact Or.inr (grecv_c (by assumption)) | exact Or.inr (grecv_c (SIs.cls (by assumption))) | exact Or.inr (grecv_at (BSb.at (by assumption)))) (by first | exact Or.inl (by decide) | exact Or.inr (gnewv_at (by assumption))) rfl (G_tmPr a3 (some x) (some u) (vld1 kx) hp) ?_; rintro _ _ ⟨rfl, rfl⟩
                    (repeat (refine GW.pl rfl rfl ?_))
                    have tA := a3.1
                    refine GW.c2 rfl rfl (by first | exact Or.inl rfl | exact Or.inr (grecv_at (by assumption)) | exact Or.inr (grecv_c (by assumption)) | exact Or.inr (grecv_c (SIs.cls (by assumption))) | exact Or.inr (grecv_at (BSb.at (by assumption)))) (by first | exact Or.inl (by decide) | exact Or.inr (gnewv_at (by assumption))) rfl (G_rotL a1 a3 ku hxl) ?_
                    rintro _ g2 ⟨rfl, hK2, hl2, e2⟩
                    have h2 := h1.rotL ku hxl hK2 hl2 e2
                    have hwx : w ≠ x := fun z => by
                      have := (a1.2.2.2.1 u ku).2 x hxl
                      omega
                    refine t56 _ u x w _ _ _ _ _ _ _ ku h2 ?_ ?_ ?_ ?_
                    · unfold rlP; rw [if_pos rfl]
                    · unfold rlL; rw [if_pos rfl]
                    · unfold rlP; rw [if_neg (fun z => hux z.symm), if_pos rfl]; exact hw
                    · unfold rlL; rw [if_neg hwx, if_pos ⟨hw, hwu⟩]
                · -- the uncle is red
                  (repeat (refine GW.pl rfl rfl ?_))
                  refine GW.c1 rfl rfl (by first | exact Or.inl rfl | exact Or.inr (grecv_at (by assumption)) | exact Or.inr (grecv_c (by assumption)) | exact Or.inr (grecv_c (SIs.cls (by assumption))) | exact Or.inr (grecv_at (BSb.at (by assumption)))) (by first | exact Or.inl (by decide) | exact Or.inr (gnewv_at (by assumption))) rfl (G_tmPr a3 (some x) (some u) (vld1 kx) hp) ?_; rintro _ _ ⟨rfl, rfl⟩
                  (repeat (refine GW.pl rfl rfl ?_))
                  refine GW.c2 rfl rfl (by first | exact Or.inl rfl | exact Or.inr (grecv_at (by assumption)) | exact Or.inr (grecv_c (by assumption)) | exact Or.inr (grecv_c (SIs.cls (by assumption))) | exact Or.inr (grecv_at (BSb.at (by assumption)))) (by first | exact Or.inl (by decide) | exact Or.inr (gnewv_at (by assumption))) rfl (G_tmSC a3 (o := some u) (vld1 ku) (c := 1) (Or.inr rfl)) ?_
                  rintro _ g2 ⟨rfl, q2⟩
                  have h2 := h1.col q2
                  (repeat (refine GW.pl rfl rfl ?_))
                  refine GW.c2 rfl rfl (by first | exact Or.inl rfl | exact Or.inr (grecv_at (by assumption)) | exact Or.inr (grecv_c (by assumption)) | exact Or.inr (grecv_c (SIs.cls (by assumption))) | exact Or.inr (grecv_at (BSb.at (by assumption)))) (by first | exact Or.inl (by decide) | exact Or.inr (gnewv_at (by assumption))) rfl (G_tmSC h2.2.2.1 (o := R w) vy (c := 1) (Or.inr rfl)) ?_
                  rintro _ g3 ⟨rfl, q3⟩
                  have h3 := h2.col q3
                  (repeat (refine GW.pl rfl rfl ?_))
                  refine GW.c1 rfl rfl (by first | exact Or.inl rfl | exact Or.inr (grecv_at (by assumption)) | exact Or.inr (grecv_c (by assumption)) | exact Or.inr (grecv_c (SIs.cls (by assumption))) | exact Or.inr (grecv_at (BSb.at (by assumption)))) (by first | exact Or.inl (by decide) | exact Or.inr (gnewv_at (by assumption))) rfl (G_tmPr h3.2.2.1 (some x) (some u) (vld1 kx) hp) ?_; rintro _ _ ⟨rfl, rfl⟩
                  refine GW.c1 rfl rfl (by first | exact Or.inl rfl | exact Or.inr (grecv_at (by assumption)) | exact Or.inr (grecv_c (by assumption)) | exact Or.inr (grecv_c (SIs.cls (by assumption))) | exact Or.inr (grecv_at (BSb.at (by assumption)))) (by first | exact Or.inl (by decide) | exact Or.inr (gnewv_at (by assumption))) rfl (G_tmPr h3.2.2.1 (some u) (some w) (vld1 ku) hw) ?_; rintro _ _ ⟨rfl, rfl⟩
                  (repeat (refine GW.pl rfl rfl ?_))
                  refine GW.c2 rfl rfl (by first | exact Or.inl rfl | exact Or.inr (grecv_at (by assumption)) | exact Or.inr (grecv_c (by assumption)) | exact Or.inr (grecv_c (SIs.cls (by assumption))) | exact Or.inr (grecv_at (BSb.at (by assumption)))) (by first | exact Or.inl (by decide) | exact Or.inr (gnewv_at (by assumption))) rfl (G_tmSC h3.2.2.1 (o := some w) (vld1 kw) (c := 0) (Or.inl rfl)) ?_
                  rintro _ g4 ⟨rfl, q4⟩
                  have h4 := h3.col q4
                  (repeat (refine GW.pl rfl rfl ?_))
                  refine GW.c1 rfl rfl (by first | exact Or.inl rfl | exact Or.inr (grecv_at (by assumption)) | exact Or.inr (grecv_c (by assumption)) | exact Or.inr (grecv_c (SIs.cls (by assumption))) | exact Or.inr (grecv_at (BSb.at (by assumption)))) (by first | exact Or.inl (by decide) | exact Or.inr (gnewv_at (by assumption))) rfl (G_tmPr h4.2.2.1 (some x) (some u) (vld1 kx) hp) ?_; rintro _ _ ⟨rfl, rfl⟩
                  refine GW.c1 rfl rfl (by first | exact Or.inl rfl | exact Or.inr (grecv_at (by assumption)) | exact Or.inr (grecv_c (by assumption)) | exact Or.inr (grecv_c (SIs.cls (by assumption))) | exact Or.inr (grecv_at (BSb.at (by assumption)))) (by first | exact Or.inl (by decide) | exact Or.inr (gnewv_at (by assumption))) rfl (G_tmPr h4.2.2.1 (some u) (some w) (vld1 ku) hw) ?_; rintro _ _ ⟨rfl, rfl⟩
                  (iterate 3 (refine GW.pl rfl rfl ?_))
                  refine ih _ w _ lo hi L R P rt kw ?_ h4
                  rcases hxc with y | y
                  · have := (a1.2.2.1 u ku).2 x y; omega
                  · have := (a1.2.2.2.1 u ku).2 x y; omega
  refine GM.of rfl rfl rfl ?_
  have na := h.2.2.1.nat kx
  (repeat (refine GW.pl rfl rfl ?_))
  refine GW.putz rfl rfl na rfl (by decide) ?_
  have bx := h.1.1 x kx
  refine loop 129 _ x none lo hi L R P rt kx (by omega) ⟨h.1, h.2.1, h.2.2.1, fun k hk => ?_, h.2.2.2.2.1.tr (Kp.fi rfl (Or.inr ⟨x, kx, rfl⟩)), fun F hF n => (gfi_nf hF).trans (h.2.2.2.2.2 F hF n)⟩
  by_cases z : k = x
  · rw [z]; exact Or.inl gfi_eq
  · rw [show gfi (gsfi g 133 (N x) 0) 133 (N k) = gfi g 133 (N k) from gfi_nn (fun y => z (h.2.2.1.2.2.2.2.1 k x hk kx y))]
    exact h.2.2.2.1 k hk
end Tf
