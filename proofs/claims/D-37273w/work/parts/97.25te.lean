set_option maxRecDepth 100000
/-! TREEMAP: successor, deleteEntry, remove -/
section Te
variable {d : Nat} {g : GH} {t : Nat} {K : Int → Prop} {N : Int → Nat} {ky : Int → Int} {vl : Int → Nat} {lo hi : Int → Int} {L R P : Int → Option Int} {rt : Option Int}
theorem G_succ (H : TSh K lo hi L R P rt) (h : TLk g t K N ky vl L R P rt) {x b : Int} (kx : K x) (hb : R x = some b) : GMr (d + 1) gk_J5_successor [aR (N x)] g (fun r g' => (∃ s, r = vR (some (N s)) ∧ K s ∧ L s = none ∧ x < s ∧ s < hi x ∧ ∀ y, K y → ¬ (x < y ∧ y < s)) ∧ g = g') := by
  have nA := h.nat kx
  have loop : ∀ (m : Nat) (q : Int) (e : Option GV), K q → lo q = x → q < hi x → hi q - lo q ≤ m → GW d gm_J5_successor 10 [some (aR (N x)), some (aR (N q)), e] [] g (fun r g' => ∃ v, r = .inl v ∧ (∃ s, v = vR (some (N s)) ∧ K s ∧ L s = none ∧ x < s ∧ s < hi x ∧ ∀ y, K y → ¬ (x < y ∧ y < s)) ∧ g = g') := by
    intro m
    induction m with
    | zero =>
      intro q e kq h1 h2 h3
      have := H.1 q kq
      omega
    | succ m ih =>
      intro q e kq h1 h2 h3
      have bq := H.1 q kq
      have qA := h.nat kq
      (repeat (refine GW.pl rfl rfl ?_))
      refine GW.getr rfl rfl (GHas.at qA rfl) (h.fL kq) ?_
      cases hl : L q with
      | none =>
        refine GW.nul rfl rfl rfl ?_
        (repeat (refine GW.pl rfl rfl ?_))
        refine GW.aret rfl rfl ⟨_, rfl, ⟨q, rfl, kq, hl, by omega, h2, fun y ky => ?_⟩, rfl⟩
        have := (H.2.2.1 q kq).1 hl y ky
        rw [h1] at this
        exact this
      | some j =>
        obtain ⟨j1, j2, j3, j4⟩ := (H.2.2.1 q kq).2 j hl
        have bj := H.1 j j1
        refine GW.nul rfl rfl (gok_at (h.nat j1) rfl) ?_
        (repeat (refine GW.pl rfl rfl ?_))
        refine GW.getr rfl rfl (GHas.at qA rfl) (h.fL kq) ?_
        rw [hl]
        refine GW.str rfl rfl ?_
        (iterate 1 (refine GW.pl rfl rfl ?_))
        exact ih j _ j1 (by omega) (by omega) (by omega)
  obtain ⟨b1, b2, b3, b4⟩ := (H.2.2.2.1 x kx).2 b hb
  have bb := H.1 b b1
  refine GM.of rfl rfl rfl ?_
  (repeat (refine GW.pl rfl rfl ?_))
  refine GW.nul rfl rfl (gok_at nA rfl) ?_
  (repeat (refine GW.pl rfl rfl ?_))
  refine GW.getr rfl rfl (GHas.at nA rfl) (h.fR kx) ?_
  rw [hb]
  refine GW.nul rfl rfl (gok_at (h.nat b1) rfl) ?_
  (repeat (refine GW.pl rfl rfl ?_))
  refine GW.getr rfl rfl (GHas.at nA rfl) (h.fR kx) ?_
  rw [hb]
  (iterate 1 (refine GW.pl rfl rfl ?_))
  exact loop 130 b none b1 b2 (by omega) (by have := H.1 x kx; omega)
theorem TLk.res {K' : Int → Prop} (h : TLk g t K N ky vl L R P rt) (hk : ∀ k, K' k → K k) : TLk g t K' N ky vl L R P rt :=
  ⟨h.1, h.2.1, h.2.2.1, fun k q => h.2.2.2.1 k (hk k q), fun j k q1 q2 => h.2.2.2.2.1 j k (hk j q1) (hk k q2), fun k q => h.2.2.2.2.2.1 k (hk k q), fun k q => h.2.2.2.2.2.2 k (hk k q)⟩
theorem TmS.res {K' : Int → Prop} (hk : ∀ k, K' k → K k) (m : Nat) (h : TmS t K' N m) : TmS t K N m := h.elim Or.inl (fun ⟨k, a, b⟩ => Or.inr ⟨k, hk k a, b⟩)
/-- what is left when the node y is out -/
def DlQ (g g' : GH) (t : Nat) (K : Int → Prop) (N : Int → Nat) (ky : Int → Int) (vl : Int → Nat) (y : Int) : Prop := ∃ lo hi L R P rt, TSh (fun k => K k ∧ k ≠ y) lo hi L R P rt ∧ TBd (fun k => K k ∧ k ≠ y) lo hi ∧ TLk g' t (fun k => K k ∧ k ≠ y) N ky vl L R P rt ∧ clrs g' (fun k => K k ∧ k ≠ y) N ∧ Kp g g' (TmS t K N) 0 ∧ ∀ F, (F == 133) = false → ∀ n, gfi g' F n = gfi g F n
theorem G_del31 (H : TSh K lo hi L R P rt) (B : TBd K lo hi) (h : TLk g t K N ky vl L R P rt) (hc : clrs g K N) {y : Int} (kY : K y) (h1 : L y = none ∨ R y = none) (e : Option GV) : GW (d + 2) gm_J5_deleteEntry 31 [some (aR t), some (aR (N y)), e] [] g (fun r g' => ∃ v, r = .inl v ∧ v = none ∧ DlQ g g' t K N ky vl y) := by
  have sN : ∀ k, K k → TmS t K N (N k) := fun k hk => Or.inr ⟨k, hk, rfl⟩
  have by9 := H.1 y kY
  have HD := H.del kY h1
  have BD := TBd.del H B kY
  have yA := h.nat kY
  -- where y hangs
  have hup : ∀ p, P y = some p → K p ∧ p ≠ y ∧ (L p = some y ∨ R p = some y) := fun p hp => by
    obtain ⟨p1, p2⟩ := (H.2.2.2.2.1 y kY).2 p hp
    refine ⟨p1, fun z => ?_, p2⟩
    have bp := H.1 p p1
    rcases p2 with p2 | p2
    · have := (H.2.2.1 p p1).2 y p2; omega
    · have := (H.2.2.2.1 p p1).2 y p2; omega
  have hch : ∀ a, K a → (L a = some y ∨ R a = some y) → P y = some a := fun a ha z => z.elim (fun z => ((H.2.2.1 a ha).2 y z).2.2.2) (fun z => ((H.2.2.2.1 a ha).2 y z).2.2.2)
  (repeat (refine GW.pl rfl rfl ?_))
  refine GW.getr rfl rfl (GHas.at yA rfl) (h.fL kY) ?_
  -- the child is known
  have go : ∀ (c : Option Int), oel (L y) (R y) = c → GW (d + 2) gm_J5_deleteEntry 40 [some (aR t), some (aR (N y)), some (aQ (c.map N))] [] g (fun r g' => ∃ v, r = .inl v ∧ v = none ∧ DlQ g g' t K N ky vl y) := by
    intro c hcc
    rw [hcc] at HD
    cases c with
    | some c =>
      have kc : K c := by
        cases hl : L y with
        | none => rw [hl] at hcc; exact H.vR kY c hcc
        | some b => rw [hl] at hcc; cases hcc; exact H.vL kY c hl
      have cy : c ≠ y := by
        have bc := H.1 c kc
        cases hl : L y with
        | none => rw [hl] at hcc; have := (H.2.2.2.1 y kY).2 c hcc; omega
        | some b => rw [hl] at hcc; cases hcc; have := (H.2.2.1 y kY).2 c hl; omega
      -- from 67 on
      have c67 : ∀ (g1 : GH) (L1 R1 P1 : Int → Option Int) (rt1 : Option Int), TLk g1 t K N ky vl L1 R1 P1 rt1 → Kp g g1 (TmS t K N) 0 → (∀ F n, gfi g1 F n = gfi g F n) → (∀ a, K a ∧ a ≠ y → L1 a = if L a = some y then some c else L a) → (∀ a, K a ∧ a ≠ y → R1 a = if R a = some y then some c else R a) → (∀ a, K a ∧ a ≠ y → P1 a = if some c = some a then P y else P a) → rt1 = (if rt = some y then some c else rt) → GW (d + 2) gm_J5_deleteEntry 67 [some (aR t), some (aR (N y)), some (aR (N c))] [] g1 (fun r g' => ∃ v, r = .inl v ∧ v = none ∧ DlQ g g' t K N ky vl y) := by
        intro g1 L1 R1 P1 rt1 l1 hK hF e1 e2 e3 e4
        (repeat (refine GW.pl rfl rfl ?_))
        refine GW.putr rfl rfl (l1.nat kY) rfl ?_
        have l2 := l1.setP kY none
        (repeat (refine GW.pl rfl rfl ?_))
        refine GW.putr rfl rfl (l2.nat kY) rfl ?_
        have l3 := l2.setR kY none
        refine GW.putr rfl rfl (l3.nat kY) rfl ?_
        have l4 := l3.setL kY none
        have hK4 : Kp g (gsfr (gsfr (gsfr g1 132 (N y) none) 131 (N y) none) 130 (N y) none) (TmS t K N) 0 := hK.tr (((Kp.fr (S := TmS t K N) (g := g1) (F := 132) (n := N y) (r := (none : Option Int).map N) rfl (sN y kY)).tr (Kp.fr (F := 131) (n := N y) (r := (none : Option Int).map N) rfl (sN y kY))).tr (Kp.fr (F := 130) (n := N y) (r := (none : Option Int).map N) rfl (sN y kY)))
        have l5 : TLk (gsfr (gsfr (gsfr g1 132 (N y) none) 131 (N y) none) 130 (N y) none) t (fun k => K k ∧ k ≠ y) N ky vl _ _ _ _ := (l4.res (K' := fun k => K k ∧ k ≠ y) (fun k q => q.1)).congr (fun a ha => (if_neg ha.2).trans (e1 a ha)) (fun a ha => (if_neg ha.2).trans (e2 a ha)) (fun a ha => (if_neg ha.2).trans (e3 a ha)) e4
        have hF4 : ∀ F n, gfi (gsfr (gsfr (gsfr g1 132 (N y) none) 131 (N y) none) 130 (N y) none) F n = gfi g F n := hF
        have yA4 : GAt (gsfr (gsfr (gsfr g1 132 (N y) none) 131 (N y) none) 130 (N y) none) (N y) 22 := l4.nat kY
        have hcl : clrs (gsfr (gsfr (gsfr g1 132 (N y) none) 131 (N y) none) 130 (N y) none) (fun k => K k ∧ k ≠ y) N := fun k hk => by rw [hF4]; exact hc k hk.1
        have tA4 : GAt (gsfr (gsfr (gsfr g1 132 (N y) none) 131 (N y) none) 130 (N y) none) t 21 := l4.1
        generalize gsfr (gsfr (gsfr g1 132 (N y) none) 131 (N y) none) 130 (N y) none = g4 at hK4 l5 hF4 yA4 hcl tA4 ⊢
        have c4 : gfi g4 133 (N y) = 0 ∨ gfi g4 133 (N y) = 1 := by rw [hF4]; exact hc y kY
        (repeat (refine GW.pl rfl rfl ?_))
        refine GW.geti rfl rfl (GHas.at yA4 rfl) rfl (fun hcr => ?_)
        (repeat (refine GW.pl rfl rfl ?_))
        refine GW.br rfl rfl ⟨hcr, by decide⟩ (fun _ => ?_) (fun _ => ?_)
        · exact GW.ret rfl rfl ⟨_, rfl, rfl, _, _, _, _, _, _, HD, BD, l5, hcl, hK4, fun F hF n => hF4 F n⟩
        · (repeat (refine GW.pl rfl rfl ?_))
          refine GW.c2 rfl rfl (by first | exact Or.inl rfl | exact Or.inr (grecv_at (by assumption)) | exact Or.inr (grecv_c (by assumption)) | exact Or.inr (grecv_c (SIs.cls (by assumption))) | exact Or.inr (grecv_at (BSb.at (by assumption)))) (by first | exact Or.inl (by decide) | exact Or.inr (gnewv_at (by assumption))) rfl (G_fixD (pr := False) (p := 0) (g0 := g4) ⟨HD, BD, l5, hcl, Kp.rf, fun _ _ _ => rfl⟩ ⟨kc, cy⟩ (fun z => z.elim)) ?_
          rintro _ g5 ⟨rfl, lo5, hi5, L5, R5, P5, rt5, ⟨u1, u2, u3, u4, u5, u6⟩, -⟩
          (repeat (refine GW.pl rfl rfl ?_))
          exact GW.ret rfl rfl ⟨_, rfl, rfl, lo5, hi5, L5, R5, P5, rt5, u1, u2, u3, u4, hK4.trans u5 (fun k hk z => TmS.res (fun _ q => q.1) k z), fun F hF n => (u6 F hF n).trans (hF4 F n)⟩
      (repeat (refine GW.pl rfl rfl ?_))
      refine GW.nul rfl rfl (gok_at (h.nat kc) rfl) ?_
      (repeat (refine GW.pl rfl rfl ?_))
      refine GW.getr rfl rfl (GHas.at yA rfl) (h.fP kY) ?_
      refine GW.putr rfl rfl (h.nat kc) rfl ?_
      have l1 := h.setP kc (P y)
      have hK1 : Kp g (gsfr g 132 (N c) ((P y).map N)) (TmS t K N) 0 := Kp.fr rfl (sN c kc)
      have pY1 : (if y = c then P y else P y) = P y := by split <;> rfl
      have e3 : ∀ a, K a ∧ a ≠ y → (if a = c then P y else P a) = if some c = some a then P y else P a := fun a _ => by
        by_cases z : a = c
        · rw [if_pos z, if_pos (by rw [z])]
        · rw [if_neg z, if_neg (fun w => z (Option.some.inj w).symm)]
      (repeat (refine GW.pl rfl rfl ?_))
      refine GW.getr rfl rfl (GHas.at (l1.nat kY) rfl) (l1.fP kY) ?_
      (try dsimp only)
      rw [pY1]
      cases hp : P y with
      | none =>
        refine GW.nul rfl rfl rfl ?_
        rw [hp] at l1 hK1 e3
        (repeat (refine GW.pl rfl rfl ?_))
        refine GW.putr rfl rfl l1.1 rfl ?_
        have l2 := l1.setT (some c)
        (iterate 1 (refine GW.pl rfl rfl ?_))
        refine c67 _ _ _ _ _ l2 (hK1.tr (Kp.fr rfl (Or.inl rfl))) (fun _ _ => rfl) (fun a ha => ?_) (fun a ha => ?_) (fun a ha => ?_) ?_
        · rw [if_neg (fun z => by have := hch a ha.1 (Or.inl z); rw [hp] at this; cases this)]
        · rw [if_neg (fun z => by have := hch a ha.1 (Or.inr z); rw [hp] at this; cases this)]
        · rw [hp]; exact e3 a ha
        · rw [if_pos ((H.2.2.2.2.1 y kY).1 hp)]
      | some p =>
        obtain ⟨kp, py, hpc⟩ := hup p hp
        have pc : p ≠ c := fun z => by
          have bc := H.1 c kc
          have bp := H.1 p kp
          subst z
          cases hl : L y with
          | none =>
            rw [hl] at hcc
            have := (H.2.2.2.1 y kY).2 p hcc
            rcases hpc with w | w
            · have := (H.2.2.1 p kp).2 y w; omega
            · have := (H.2.2.2.1 p kp).2 y w; omega
          | some b =>
            rw [hl] at hcc; cases hcc
            have := (H.2.2.1 y kY).2 p hl
            rcases hpc with w | w
            · have := (H.2.2.1 p kp).2 y w; omega
            · have := (H.2.2.2.1 p kp).2 y w; omega
        have pY2 : (if y = c then some p else P y) = some p := by rw [hp]; split <;> rfl
        rw [hp] at l1 hK1 e3
        refine GW.nul rfl rfl (gok_at (l1.nat kp) rfl) ?_
        (repeat (refine GW.pl rfl rfl ?_))
        refine GW.getr rfl rfl (GHas.at (l1.nat kY) rfl) (l1.fP kY) ?_
        (try dsimp only)
        rw [pY2]
        refine GW.getr rfl rfl (GHas.at (l1.nat kp) rfl) (l1.fL kp) ?_
        refine GW.ane rfl (gcan2_at2 (l1.nat kY) rfl (l1.gok (H.vL kp))) (fun hne => ?_) (fun heq => ?_)
        · have hr : R p = some y := hpc.resolve_left (fun z => hne (by rw [z]; rfl))
          (repeat (refine GW.pl rfl rfl ?_))
          refine GW.getr rfl rfl (GHas.at (l1.nat kY) rfl) (l1.fP kY) ?_
          (try dsimp only)
          rw [pY2]
          (repeat (refine GW.pl rfl rfl ?_))
          refine GW.putr rfl rfl (l1.nat kp) rfl ?_
          have l2 := l1.setR kp (some c)
          refine c67 _ _ _ _ _ l2 (hK1.tr (Kp.fr rfl (sN p kp))) (fun _ _ => rfl) (fun a ha => ?_) (fun a ha => ?_) (fun a ha => ?_) ?_
          · rw [if_neg (fun z => by
              have := hch a ha.1 (Or.inl z)
              rw [hp] at this
              have := Option.some.inj this
              subst this
              exact H.lr kp z hr)]
          · by_cases z : a = p
            · rw [if_pos z, z, if_pos hr]
            · rw [if_neg z, if_neg (fun w => by
                have := hch a ha.1 (Or.inr w)
                rw [hp] at this
                exact z (Option.some.inj this).symm)]
          · rw [hp]; exact e3 a ha
          · rw [if_neg (fun z => by have := (H.2.2.2.2.2.2 y z).2.2.2; rw [hp] at this; cases this)]
        · have hl : L p = some y := h.inj (H.vL kp) kY heq.symm
          (repeat (refine GW.pl rfl rfl ?_))
          refine GW.getr rfl rfl (GHas.at (l1.nat kY) rfl) (l1.fP kY) ?_
          (try dsimp only)
          rw [pY2]
          (repeat (refine GW.pl rfl rfl ?_))
          refine GW.putr rfl rfl (l1.nat kp) rfl ?_
          have l2 := l1.setL kp (some c)
          (iterate 1 (refine GW.pl rfl rfl ?_))
          refine c67 _ _ _ _ _ l2 (hK1.tr (Kp.fr rfl (sN p kp))) (fun _ _ => rfl) (fun a ha => ?_) (fun a ha => ?_) (fun a ha => ?_) ?_
          · by_cases z : a = p
            · rw [if_pos z, z, if_pos hl]
            · rw [if_neg z, if_neg (fun w => by
                have := hch a ha.1 (Or.inl w)
                rw [hp] at this
                exact z (Option.some.inj this).symm)]
          · rw [if_neg (fun z => by
              have := hch a ha.1 (Or.inr z)
              rw [hp] at this
              have := Option.some.inj this
              subst this
              exact H.lr kp hl z)]
          · rw [hp]; exact e3 a ha
          · rw [if_neg (fun z => by have := (H.2.2.2.2.2.2 y z).2.2.2; rw [hp] at this; cases this)]
    | none =>
      have hln : L y = none ∧ R y = none := by
        cases hl : L y with
        | none => rw [hl] at hcc; exact ⟨rfl, hcc⟩
        | some b => rw [hl] at hcc; cases hcc
      -- at 98: y is a leaf, and there are others
      have c98 : ∀ (g1 : GH) (lo hi : Int → Int) (L R P : Int → Option Int) (rt : Option Int) (p : Int), K p → p ≠ y → TFx g g1 t K N ky vl lo hi L R P rt → L y = none → R y = none → GW (d + 2) gm_J5_deleteEntry 98 [some (aR t), some (aR (N y)), some (aQ none)] [] g1 (fun r g' => ∃ v, r = .inl v ∧ v = none ∧ DlQ g g' t K N ky vl y) := by
        intro g1 lo hi L R P rt p kp py h2 hL hR
        obtain ⟨a1, a2, a3, a4, a5, a6⟩ := h2
        have b_y := a1.1 y kY
        have yA1 := a3.nat kY
        have hD1 := a1.del kY (Or.inl hL)
        have bD1 := TBd.del a1 a2 kY
        rw [hL, hR] at hD1
        have hch1 : ∀ a, K a → (L a = some y ∨ R a = some y) → P y = some a := fun a ha z => z.elim (fun z => ((a1.2.2.1 a ha).2 y z).2.2.2) (fun z => ((a1.2.2.2.1 a ha).2 y z).2.2.2)
        -- at 120
        have c120 : ∀ (g2 : GH) (L2 R2 : Int → Option Int), TLk g2 t K N ky vl L2 R2 P rt → Kp g1 g2 (TmS t K N) 0 → (∀ F n, gfi g2 F n = gfi g1 F n) → (∀ a, K a ∧ a ≠ y → L2 a = if L a = some y then none else L a) → (∀ a, K a ∧ a ≠ y → R2 a = if R a = some y then none else R a) → rt ≠ some y → GW (d + 2) gm_J5_deleteEntry 120 [some (aR t), some (aR (N y)), some (aQ none)] [] g2 (fun r g' => ∃ v, r = .inl v ∧ v = none ∧ DlQ g g' t K N ky vl y) := by
          intro g2 L2 R2 l2 hK2 hF2 e1 e2 e4
          (repeat (refine GW.pl rfl rfl ?_))
          refine GW.putr rfl rfl (l2.nat kY) rfl ?_
          have l3 := l2.setP kY none
          refine GW.ret rfl rfl ⟨_, rfl, rfl, _, _, _, _, _, _, hD1, bD1, (l3.res (K' := fun k => K k ∧ k ≠ y) (fun k q => q.1)).congr e1 e2 (fun a ha => ?_) (if_neg e4).symm, fun k hk => ?_, (a5.tr hK2).tr (Kp.fr rfl (sN y kY)), fun F hF n => (hF2 F n).trans (a6 F hF n)⟩
          · rw [if_neg ha.2]
            exact (if_neg (fun z => by cases z)).symm
          · show gfi g2 133 (N k) = 0 ∨ gfi g2 133 (N k) = 1
            rw [hF2]; exact a4 k hk.1
        cases hq : P y with
        | none =>
          exfalso
          obtain ⟨r1, r2, r3, r4⟩ := a1.2.2.2.2.2.2 y ((a1.2.2.2.2.1 y kY).1 hq)
          have n1 := (a1.2.2.1 y kY).1 hL p kp
          have n2 := (a1.2.2.2.1 y kY).1 hR p kp
          have bp := a1.1 p kp
          omega
        | some q =>
          have kq := a1.vP kY q hq
          have hqc := ((a1.2.2.2.2.1 y kY).2 q hq).2
          have rty : rt ≠ some y := fun z => by have := (a1.2.2.2.2.2.2 y z).2.2.2; rw [hq] at this; cases this
          (repeat (refine GW.pl rfl rfl ?_))
          refine GW.getr rfl rfl (GHas.at yA1 rfl) (a3.fP kY) ?_
          rw [hq]
          refine GW.nul rfl rfl (gok_at (a3.nat kq) rfl) ?_
          (repeat (refine GW.pl rfl rfl ?_))
          refine GW.getr rfl rfl (GHas.at yA1 rfl) (a3.fP kY) ?_
          rw [hq]
          refine GW.getr rfl rfl (GHas.at (a3.nat kq) rfl) (a3.fL kq) ?_
          refine GW.ane rfl (gcan2_at2 yA1 rfl (a3.gok (a1.vL kq))) (fun hne => ?_) (fun heq => ?_)
          · have hr : R q = some y := hqc.resolve_left (fun z => hne (by rw [z]; rfl))
            (repeat (refine GW.pl rfl rfl ?_))
            refine GW.getr rfl rfl (GHas.at yA1 rfl) (a3.fP kY) ?_
            rw [hq]
            refine GW.getr rfl rfl (GHas.at (a3.nat kq) rfl) (a3.fR kq) ?_
            rw [hr]
            refine GW.ane rfl (gcan2_at2 yA1 rfl (gok_at yA1 rfl)) (fun z => absurd rfl z) (fun _ => ?_)
            (repeat (refine GW.pl rfl rfl ?_))
            refine GW.getr rfl rfl (GHas.at yA1 rfl) (a3.fP kY) ?_
            rw [hq]
            (repeat (refine GW.pl rfl rfl ?_))
            refine GW.putr rfl rfl (a3.nat kq) rfl ?_
            have l2 := a3.setR kq none
            refine c120 _ _ _ l2 (Kp.fr rfl (sN q kq)) (fun _ _ => rfl) (fun a ha => ?_) (fun a ha => ?_) rty
            · rw [if_neg (fun z => by
                have := hch1 a ha.1 (Or.inl z)
                rw [hq] at this
                have := Option.some.inj this
                subst this
                exact a1.lr kq z hr)]
            · by_cases z : a = q
              · rw [if_pos z, z, if_pos hr]
              · rw [if_neg z, if_neg (fun w => by
                  have := hch1 a ha.1 (Or.inr w)
                  rw [hq] at this
                  exact z (Option.some.inj this).symm)]
          · have hl : L q = some y := a3.inj (a1.vL kq) kY heq.symm
            (repeat (refine GW.pl rfl rfl ?_))
            refine GW.getr rfl rfl (GHas.at yA1 rfl) (a3.fP kY) ?_
            rw [hq]
            (repeat (refine GW.pl rfl rfl ?_))
            refine GW.putr rfl rfl (a3.nat kq) rfl ?_
            have l2 := a3.setL kq none
            (iterate 1 (refine GW.pl rfl rfl ?_))
            refine c120 _ _ _ l2 (Kp.fr rfl (sN q kq)) (fun _ _ => rfl) (fun a ha => ?_) (fun a ha => ?_) rty
            · by_cases z : a = q
              · rw [if_pos z, z, if_pos hl]
              · rw [if_neg z, if_neg (fun w => by
                  have := hch1 a ha.1 (Or.inl w)
                  rw [hq] at this
                  exact z (Option.some.inj this).symm)]
            · rw [if_neg (fun z => by
                have := hch1 a ha.1 (Or.inr z)
                rw [hq] at this
                have := Option.some.inj this
                subst this
                exact a1.lr kq hl z)]
      (repeat (refine GW.pl rfl rfl ?_))
      refine GW.nul rfl rfl rfl ?_
      (repeat (refine GW.pl rfl rfl ?_))
      refine GW.getr rfl rfl (GHas.at yA rfl) (h.fP kY) ?_
      cases hp : P y with
      | none =>
        refine GW.nul rfl rfl rfl ?_
        (repeat (refine GW.pl rfl rfl ?_))
        refine GW.putr rfl rfl h.1 rfl ?_
        have l2 := h.setT none
        (repeat (refine GW.pl rfl rfl ?_))
        refine GW.ret rfl rfl ⟨_, rfl, rfl, _, _, _, _, _, _, HD, BD, (l2.res (K' := fun k => K k ∧ k ≠ y) (fun k q => q.1)).congr (fun a ha => ?_) (fun a ha => ?_) (fun a ha => ?_) ?_, fun k hk => hc k hk.1, Kp.fr rfl (Or.inl rfl), fun F hF n => rfl⟩
        · rw [if_neg (fun z => by have := hch a ha.1 (Or.inl z); rw [hp] at this; cases this)]
        · rw [if_neg (fun z => by have := hch a ha.1 (Or.inr z); rw [hp] at this; cases this)]
        · exact (if_neg (fun z => by cases z)).symm
        · rw [if_pos ((H.2.2.2.2.1 y kY).1 hp)]
      | some p =>
        obtain ⟨kp, py, hpc⟩ := hup p hp
        refine GW.nul rfl rfl (gok_at (h.nat kp) rfl) ?_
        (repeat (refine GW.pl rfl rfl ?_))
        refine GW.geti rfl rfl (GHas.at yA rfl) rfl (fun hcr => ?_)
        (repeat (refine GW.pl rfl rfl ?_))
        refine GW.br rfl rfl ⟨hcr, by decide⟩ (fun _ => ?_) (fun _ => ?_)
        · exact c98 g lo hi L R P rt p kp py ⟨H, B, h, hc, Kp.rf, fun _ _ _ => rfl⟩ hln.1 hln.2
        · (repeat (refine GW.pl rfl rfl ?_))
          have tA := h.1
          refine GW.c2 rfl rfl (by first | exact Or.inl rfl | exact Or.inr (grecv_at (by assumption)) | exact Or.inr (grecv_c (by assumption)) | exact Or.inr (grecv_c (SIs.cls (by assumption))) | exact Or.inr (grecv_at (BSb.at (by assumption)))) (by first | exact Or.inl (by decide) | exact Or.inr (gnewv_at (by assumption))) rfl (G_fixD (pr := True) (p := y) (g0 := g) ⟨H, B, h, hc, Kp.rf, fun _ _ _ => rfl⟩ kY (fun _ => ⟨by omega, by omega, hln.1, hln.2⟩)) ?_
          rintro _ g5 ⟨rfl, lo5, hi5, L5, R5, P5, rt5, u1, u2⟩
          exact c98 g5 lo5 hi5 L5 R5 P5 rt5 p kp py u1 (u2 trivial).1 (u2 trivial).2
  cases hl : L y with
  | none =>
    refine GW.nul rfl rfl rfl ?_
    (repeat (refine GW.pl rfl rfl ?_))
    refine GW.getr rfl rfl (GHas.at yA rfl) (h.fR kY) ?_
    refine GW.str rfl rfl ?_
    exact go (R y) (by rw [hl]; rfl)
  | some b =>
    have kb := H.vL kY b hl
    refine GW.nul rfl rfl (gok_at (h.nat kb) rfl) ?_
    (repeat (refine GW.pl rfl rfl ?_))
    refine GW.getr rfl rfl (GHas.at yA rfl) (h.fL kY) ?_
    (iterate 1 (refine GW.pl rfl rfl ?_))
    refine GW.str rfl rfl ?_
    rw [hl]
    exact go (some b) (by rw [hl]; rfl)
end Te
