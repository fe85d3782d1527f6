set_option maxRecDepth 100000
/-! TREEMAP: new, clear, get, put, putIfAbsent -/
def Kd (M : Int → Option Nat) (k : Int) : Prop := M k ≠ none
def vd (M : Int → Option Nat) (k : Int) : Nat := (M k).getD 0
def upM (M : Int → Option Nat) (x : Int) (v : Option Nat) (k : Int) : Option Nat := if k = x then v else M k
/-- a map from keys 0 .. 127 to objects; its nodes are N k -/
def TMs (g : GH) (t : Nat) (M : Int → Option Nat) (N : Int → Nat) : Prop := ∃ lo hi L R P rt, TSh (Kd M) lo hi L R P rt ∧ TBd (Kd M) lo hi ∧ TLk g t (Kd M) N (fun k => k) (vd M) L R P rt ∧ clrs g (Kd M) N ∧ gfi g 123 t ≤ gfi g 124 t ∧ -(gfi g 124 t) ≤ gfi g 123 t
theorem TMs.at {g : GH} {t : Nat} {M : Int → Option Nat} {N : Int → Nat} (h : TMs g t M N) : GAt g t 21 := by
  obtain ⟨lo, hi, L, R, P, rt, -, -, a, -⟩ := h
  exact a.1
section Tp
variable {d : Nat} {g : GH} {t : Nat} {M : Int → Option Nat} {N : Int → Nat}
theorem Kd_up {x : Int} {v : Nat} : Kd (upM M x (some v)) = fun k => Kd M k ∨ k = x := by
  funext k
  apply propext
  unfold Kd upM
  by_cases c : k = x
  · rw [if_pos c]; exact ⟨fun _ => Or.inr c, fun _ z => by cases z⟩
  · rw [if_neg c]; exact ⟨Or.inl, fun z => z.resolve_right c⟩
theorem TMs.lt (h : TMs g t M N) (hW : GWf g) : t < gsz g ∧ ∀ k, Kd M k → N k < gsz g := by
  obtain ⟨lo, hi, L, R, P, rt, -, -, a, -⟩ := h
  exact ⟨hW.lt (by rw [a.1.1]; decide), fun k hk => hW.lt (by rw [(a.nat hk).1]; decide)⟩
theorem TLk.kp {g' : GH} {S : Nat → Prop} {c : Nat} {K : Int → Prop} {ky : Int → Int} {vl : Int → Nat} {L R P : Int → Option Int} {rt : Option Int} (h : TLk g t K N ky vl L R P rt) (hK : Kp g g' S c) (hW : GWf g) (k : SameC g g' t) (k2 : ∀ a, K a → SameC g g' (N a)) : TLk g' t K N ky vl L R P rt := by
  obtain ⟨a1, a2, a3, a4, a5, a6, a7⟩ := h
  refine ⟨⟨k.1.trans a1.1, a1.2⟩, (k.2.2.2.1 _).trans a2, (k.2.2.2.1 _).trans a3, fun a ha => ?_, a5, fun a ha => gokO.kp hK hW (a6 a ha), a7⟩
  obtain ⟨b1, b2, b3, b4, b5, b6⟩ := a4 a ha
  have kn := k2 a ha
  exact ⟨⟨kn.1.trans b1.1, b1.2⟩, (kn.2.2.2.1 _).trans b2, (kn.2.2.2.1 _).trans b3, (kn.2.2.2.1 _).trans b4, (kn.2.2.2.1 _).trans b5, (kn.2.2.2.1 _).trans b6⟩
theorem TMs.kp {g' : GH} {S : Nat → Prop} {c : Nat} (h : TMs g t M N) (hK : Kp g g' S c) (hW : GWf g) (k : SameC g g' t) (k2 : ∀ a, Kd M a → SameC g g' (N a)) : TMs g' t M N := by
  obtain ⟨lo, hi, L, R, P, rt, h1, h2, h3, h4, h5, h6⟩ := h
  exact ⟨lo, hi, L, R, P, rt, h1, h2, h3.kp hK hW k k2, fun a ha => by rw [(k2 a ha).2.2.1]; exact h4 a ha, by rw [k.2.2.1, k.2.2.1]; exact h5, by rw [k.2.2.1, k.2.2.1]; exact h6⟩
theorem G_tmNew (h : GAt g t 21) (h2 : gfr g 122 t = none) : GMr (d + 2) gk_J5_init [aR t] g (fun r g' => r = none ∧ Kp g g' (fun k => k = t) 0 ∧ TMs g' t (fun _ => none) (fun _ => 0) ∧ gfi g' 124 t = 0) := by
  have inner : ∀ d, GE (d + 1) gk_J4_init [aR t] g none := by
    intro d
    refine GM.of rfl rfl rfl ?_
    (repeat (refine GW.pl rfl rfl ?_))
    refine GW.oini rfl (And.right (show GAt _ _ _ by assumption)) (Nat.le_of_ble_eq_true rfl) ?_
    exact GW.ret rfl rfl ⟨_, rfl, rfl, rfl⟩
  refine GM.of rfl rfl rfl ?_
  (repeat (refine GW.pl rfl rfl ?_))
  refine GW.c1 rfl rfl (by first | exact Or.inl rfl | exact Or.inr (grecv_at (by assumption)) | exact Or.inr (grecv_c (by assumption)) | exact Or.inr (grecv_c (SIs.cls (by assumption))) | exact Or.inr (grecv_at (BSb.at (by assumption)))) (by first | exact Or.inl (by decide) | exact Or.inr (gnewv_at (by assumption))) rfl (inner d) ?_; rintro _ _ ⟨rfl, rfl⟩
  (repeat (refine GW.pl rfl rfl ?_))
  first | (refine GW.puti rfl rfl (by assumption) rfl (by first | omega | decide | (constructor <;> first | omega | decide)) ?_) | (refine GW.putz rfl rfl (by assumption) rfl (by first | omega | decide | (constructor <;> first | omega | decide)) ?_) | (refine GW.putb rfl rfl (by assumption) rfl (by first | omega | decide | (constructor <;> first | omega | decide)) ?_) | (refine GW.putc rfl rfl (by assumption) rfl (by first | omega | decide | (constructor <;> first | omega | decide)) ?_) | (refine GW.putr rfl rfl (by assumption) rfl ?_)
  (repeat (refine GW.pl rfl rfl ?_))
  first | (refine GW.puti rfl rfl (by assumption) rfl (by first | omega | decide | (constructor <;> first | omega | decide)) ?_) | (refine GW.putz rfl rfl (by assumption) rfl (by first | omega | decide | (constructor <;> first | omega | decide)) ?_) | (refine GW.putb rfl rfl (by assumption) rfl (by first | omega | decide | (constructor <;> first | omega | decide)) ?_) | (refine GW.putc rfl rfl (by assumption) rfl (by first | omega | decide | (constructor <;> first | omega | decide)) ?_) | (refine GW.putr rfl rfl (by assumption) rfl ?_)
  (repeat (refine GW.pl rfl rfl ?_))
  first | (refine GW.puti rfl rfl (by assumption) rfl (by first | omega | decide | (constructor <;> first | omega | decide)) ?_) | (refine GW.putz rfl rfl (by assumption) rfl (by first | omega | decide | (constructor <;> first | omega | decide)) ?_) | (refine GW.putb rfl rfl (by assumption) rfl (by first | omega | decide | (constructor <;> first | omega | decide)) ?_) | (refine GW.putc rfl rfl (by assumption) rfl (by first | omega | decide | (constructor <;> first | omega | decide)) ?_) | (refine GW.putr rfl rfl (by assumption) rfl ?_)
  have e4 : gfi (gsfr (gsfi (gsfi g 123 t 0) 124 t 0) 121 t none) 124 t = 0 := gfi_eq
  have e3 : gfi (gsfr (gsfi (gsfi g 123 t 0) 124 t 0) 121 t none) 123 t = 0 := (gfi_nf (g := gsfi g 123 t 0) (F := 124) (n := t) (x := 0) rfl).trans gfi_eq
  refine GW.ret rfl rfl ⟨_, rfl, rfl, ((Kp.fi (S := fun k => k = t) (F := 123) (n := t) (x := 0) rfl rfl).tr (Kp.fi rfl rfl)).tr (Kp.fr rfl rfl), ⟨fun _ => 0, fun _ => 0, fun _ => none, fun _ => none, fun _ => none, none, ?_, fun k hk => absurd rfl hk, ⟨h, gfr_eq, (gfr_nf (g := gsfi (gsfi g 123 t 0) 124 t 0) (F := 121) (n := t) rfl).trans h2, fun k hk => absurd rfl hk, fun j k hj => absurd rfl hj, fun k hk => absurd rfl hk, fun k hk => absurd rfl hk⟩, fun k hk => absurd rfl hk, by rw [e3, e4]; decide, by rw [e3, e4]; decide⟩, e4⟩
  exact ⟨fun k hk => absurd rfl hk, fun j k hj => absurd rfl hj, fun k hk => absurd rfl hk, fun k hk => absurd rfl hk, fun k hk => absurd rfl hk, fun _ k hk => hk rfl, fun r hr => by cases hr⟩
theorem G_tmClr (h : TMs g t M N) (hm : gfi g 124 t < 2147483647) : GMr (d + 1) gk_J5_clear [aR t] g (fun r g' => r = none ∧ Kp g g' (fun k => k = t) 0 ∧ TMs g' t (fun _ => none) (fun _ => 0) ∧ gfi g' 124 t = gfi g 124 t + 1) := by
  refine GMr.wf (fun hW => ?_)
  have hm0 := hW.2.1.1 124 t
  obtain ⟨lo, hi, L, R, P, rt, h1, h2, h3, h4, h5, h6⟩ := h
  have tA := h3.1
  refine GM.of rfl rfl rfl ?_
  (repeat (refine GW.pl rfl rfl ?_))
  refine GW.geti (v := gfi g 124 t) rfl rfl (GHas.at tA rfl) rfl (fun _ => ?_)
  (repeat (refine GW.pl rfl rfl ?_))
  refine GW.puti rfl rfl tA rfl ⟨by omega, by omega⟩ ?_
  (repeat (refine GW.pl rfl rfl ?_))
  refine GW.puti rfl rfl tA rfl (by decide) ?_
  (repeat (refine GW.pl rfl rfl ?_))
  refine GW.putr rfl rfl tA rfl ?_
  have e3 : gfi (gsfr (gsfi (gsfi g 124 t (gfi g 124 t + 1)) 123 t 0) 122 t none) 123 t = 0 := gfi_eq
  have e4 : gfi (gsfr (gsfi (gsfi g 124 t (gfi g 124 t + 1)) 123 t 0) 122 t none) 124 t = gfi g 124 t + 1 := (gfi_nf (g := gsfi g 124 t (gfi g 124 t + 1)) (F := 123) (n := t) (x := 0) rfl).trans gfi_eq
  refine GW.ret rfl rfl ⟨_, rfl, rfl, ((Kp.fi (S := fun k => k = t) (F := 124) (n := t) (x := gfi g 124 t + 1) rfl rfl).tr (Kp.fi rfl rfl)).tr (Kp.fr rfl rfl), ⟨fun _ => 0, fun _ => 0, fun _ => none, fun _ => none, fun _ => none, none, ?_, fun k hk => absurd rfl hk, ⟨tA, (gfr_nf (g := gsfi (gsfi g 124 t (gfi g 124 t + 1)) 123 t 0) (F := 122) (n := t) rfl).trans h3.2.1, gfr_eq, fun k hk => absurd rfl hk, fun j k hj => absurd rfl hj, fun k hk => absurd rfl hk, fun k hk => absurd rfl hk⟩, fun k hk => absurd rfl hk, by rw [e3, e4]; omega, by rw [e3, e4]; omega⟩, e4⟩
  exact ⟨fun k hk => absurd rfl hk, fun j k hj => absurd rfl hj, fun k hk => absurd rfl hk, fun k hk => absurd rfl hk, fun k hk => absurd rfl hk, fun _ k hk => hk rfl, fun r hr => by cases hr⟩
/-- keys are compared -/
def cmp9 (x y : Int) : Int := if x < y then -1 else if x = y then 0 else 1
theorem G_icmp {n m : Nat} {x y : Int} (hn : IIs g n x) (hm : IIs g m y) : GE (d + 3) gk_J24_compareTo [aR n, aR m] g (vI (cmp9 x y)) := by
  refine GMr.wf (fun hW => ?_)
  have bx := hW.2.1.1 134 n
  have b_y := hW.2.1.1 134 m
  rw [hn.2] at bx
  rw [hm.2] at b_y
  have nA := hn.1
  have mA := hm.1
  have c1 : ∀ d, GE (d + 1) gk_J24_compare [aI x, aI y] g (vI (cmp9 x y)) := by
    intro d
    unfold cmp9
    refine GM.of rfl rfl rfl ?_
    (repeat (refine GW.pl rfl rfl ?_))
    refine GW.br rfl rfl (by first | omega | decide | (constructor <;> first | omega | decide)) (fun h1 => ?_) (fun h1 => ?_)
    · (repeat (refine GW.pl rfl rfl ?_))
      rw [if_neg (by omega)]
      refine GW.br rfl rfl (by first | omega | decide | (constructor <;> first | omega | decide)) (fun h2 => ?_) (fun h2 => ?_)
      · (repeat (refine GW.pl rfl rfl ?_))
        rw [if_neg h2]
        exact GW.ir1 rfl rfl (by decide) ⟨_, rfl, rfl, rfl⟩
      · (repeat (refine GW.pl rfl rfl ?_))
        rw [if_pos h2]
        exact GW.ir1 rfl rfl (by decide) ⟨_, rfl, rfl, rfl⟩
    · (repeat (refine GW.pl rfl rfl ?_))
      rw [if_pos h1]
      exact GW.ir1 rfl rfl (by decide) ⟨_, rfl, rfl, rfl⟩
  have cR : inR (cmp9 x y) := by unfold cmp9; split <;> (try split) <;> decide
  have c2 : ∀ d, GE (d + 2) gk_J24_compareTo_2 [aR n, aR m] g (vI (cmp9 x y)) := by
    intro d
    refine GM.of rfl rfl rfl ?_
    (repeat (refine GW.pl rfl rfl ?_))
    refine GW.geti rfl rfl (GHas.k hn.1 rfl rfl) hn.2 (fun _ => ?_)
    (repeat (refine GW.pl rfl rfl ?_))
    refine GW.geti rfl rfl (GHas.k hm.1 rfl rfl) hm.2 (fun _ => ?_)
    refine GW.c2 rfl rfl (by first | exact Or.inl rfl | exact Or.inr (grecv_at (by assumption)) | exact Or.inr (grecv_c (by assumption)) | exact Or.inr (grecv_c (SIs.cls (by assumption))) | exact Or.inr (grecv_at (BSb.at (by assumption)))) (by first | exact Or.inl (by decide) | exact Or.inr (gnewv_at (by assumption))) rfl (c1 d) ?_; rintro _ _ ⟨rfl, rfl⟩
    exact GW.ir1 rfl rfl cR ⟨_, rfl, rfl, rfl⟩
  refine GM.of rfl rfl rfl ?_
  (repeat (refine GW.pl rfl rfl ?_))
  refine GW.cast rfl (gcast_c hm.1 rfl rfl) ?_
  refine GW.c2 rfl rfl (by first | exact Or.inl rfl | exact Or.inr (grecv_at (by assumption)) | exact Or.inr (grecv_c (by assumption)) | exact Or.inr (grecv_c (SIs.cls (by assumption))) | exact Or.inr (grecv_at (BSb.at (by assumption)))) (by first | exact Or.inl (by decide) | exact Or.inr (gnewv_at (by assumption))) rfl (c2 d) ?_; rintro _ _ ⟨rfl, rfl⟩
  exact GW.ir1 rfl rfl cR ⟨_, rfl, rfl, rfl⟩
theorem G_rnn {n : Nat} (hn : gcls g n ≠ 0) : GE (d + 1) gk_J26_requireNonNull [aR n] g (vR (some n)) := by
  refine GM.of rfl rfl rfl ?_
  (repeat (refine GW.pl rfl rfl ?_))
  refine GW.nul rfl rfl (gok_c hn) ?_
  (repeat (refine GW.pl rfl rfl ?_))
  exact GW.aret rfl rfl ⟨_, rfl, rfl, rfl⟩
theorem key_is (hW : GWf g) {k : Int} (hk : 0 ≤ k ∧ k < 128) : IIs g (k + 128).toNat k := by
  have := IIs.k hW (n := (k + 128).toNat) (by omega)
  rw [show (((k + 128).toNat : Nat) : Int) - 128 = k by omega] at this
  exact this
/-- the node of a key -/
theorem G_tmEnt (h : TMs g t M N) {x : Int} (hx : 0 ≤ x ∧ x < 128) : GE (d + 4) gk_J5_getEntry [aR t, aR (x + 128).toNat] g (vR ((M x).map (fun _ => N x))) := by
  refine GMr.wf (fun hW => ?_)
  obtain ⟨lo, hi, L, R, P, rt, h1, h2, h3, h4, h5, h6⟩ := h
  have hkx := key_is hW hx
  have kA := hkx.1
  have tA := h3.1
  have loop : ∀ (m : Nat) (o : Option Int) (e : Option GV), (∀ p, o = some p → Kd M p ∧ hi p - lo p ≤ m) → (Kd M x → ∃ p, o = some p ∧ lo p < x ∧ x < hi p) → GW (d + 3) gm_J5_getEntry 16 [some (aR t), some (aR (x + 128).toNat), some (aR (x + 128).toNat), some (aQ (o.map N)), e] [] g (fun r g' => ∃ v, r = .inl v ∧ vR ((M x).map (fun _ => N x)) = v ∧ g = g') := by
    intro m
    induction m with
    | zero =>
      intro o e ho hk
      cases o with
      | some p =>
        have := ho p rfl
        have := h1.1 p this.1
        omega
      | none =>
        (repeat (refine GW.pl rfl rfl ?_))
        refine GW.nul rfl rfl rfl ?_
        (repeat (refine GW.pl rfl rfl ?_))
        have hn : M x = none := by
          cases hz : M x with
          | none => rfl
          | some v => obtain ⟨p, hp, -⟩ := hk (by unfold Kd; rw [hz]; exact fun z => by cases z); cases hp
        rw [hn]
        exact GW.aret rfl rfl ⟨_, rfl, rfl, rfl⟩
    | succ m ih =>
      intro o e ho hk
      cases o with
      | none =>
        (repeat (refine GW.pl rfl rfl ?_))
        refine GW.nul rfl rfl rfl ?_
        (repeat (refine GW.pl rfl rfl ?_))
        have hn : M x = none := by
          cases hz : M x with
          | none => rfl
          | some v => obtain ⟨p, hp, -⟩ := hk (by unfold Kd; rw [hz]; exact fun z => by cases z); cases hp
        rw [hn]
        exact GW.aret rfl rfl ⟨_, rfl, rfl, rfl⟩
      | some p =>
        obtain ⟨kp, hm⟩ := ho p rfl
        have bp := h1.1 p kp
        have nA := h3.nat kp
        have bk : 0 ≤ p ∧ p < 128 := h3.2.2.2.2.2.2 p kp
        have pk : IIs g (p + 128).toNat p := key_is hW bk
        (repeat (refine GW.pl rfl rfl ?_))
        refine GW.nul rfl rfl (gok_at nA rfl) ?_
        (repeat (refine GW.pl rfl rfl ?_))
        refine GW.getr rfl rfl (GHas.at nA rfl) (h3.2.2.2.1 p kp).2.1 ?_
        refine GW.c2 rfl rfl (by first | exact Or.inl rfl | exact Or.inr (grecv_at (by assumption)) | exact Or.inr (grecv_c (by assumption)) | exact Or.inr (grecv_c (SIs.cls (by assumption))) | exact Or.inr (grecv_at (BSb.at (by assumption)))) (by first | exact Or.inl (by decide) | exact Or.inr (gnewv_at (by assumption))) rfl (G_icmp hkx pk) ?_; rintro _ _ ⟨rfl, rfl⟩
        refine GW.sti rfl rfl ?_
        (repeat (refine GW.pl rfl rfl ?_))
        have cR : inR (cmp9 x p) := by unfold cmp9; split <;> (try split) <;> decide
        refine GW.br rfl rfl cR (fun hc => ?_) (fun hc => ?_)
        · (repeat (refine GW.pl rfl rfl ?_))
          refine GW.br rfl rfl cR (fun hc2 => ?_) (fun hc2 => ?_)
          · have hxp : x = p := by unfold cmp9 at hc hc2; split at hc <;> (try split at hc2) <;> omega
            subst hxp
            (repeat (refine GW.pl rfl rfl ?_))
            cases hz : M x with
            | none => exact absurd hz kp
            | some v => exact GW.aret rfl rfl ⟨_, rfl, rfl, rfl⟩
          · have hxp : p < x := by unfold cmp9 at hc hc2; split at hc <;> (try split at hc2) <;> omega
            (repeat (refine GW.pl rfl rfl ?_))
            refine GW.getr rfl rfl (GHas.at nA rfl) (h3.fR kp) ?_
            (iterate 3 (refine GW.pl rfl rfl ?_))
            refine ih (R p) _ (fun j hj => ?_) (fun kx => ?_)
            · obtain ⟨j1, j2, j3, j4⟩ := (h1.2.2.2.1 p kp).2 j hj
              exact ⟨j1, by omega⟩
            · obtain ⟨p', hp', q1, q2⟩ := hk kx
              cases hp'
              cases hR : R p with
              | none => exact absurd ⟨hxp, q2⟩ ((h1.2.2.2.1 p kp).1 hR x kx)
              | some j =>
                obtain ⟨j1, j2, j3, j4⟩ := (h1.2.2.2.1 p kp).2 j hR
                exact ⟨j, rfl, by omega, by omega⟩
        · have hxp : x < p := by unfold cmp9 at hc; split at hc <;> (try split at hc) <;> omega
          (repeat (refine GW.pl rfl rfl ?_))
          refine GW.getr rfl rfl (GHas.at nA rfl) (h3.fL kp) ?_
          (iterate 3 (refine GW.pl rfl rfl ?_))
          refine ih (L p) _ (fun j hj => ?_) (fun kx => ?_)
          · obtain ⟨j1, j2, j3, j4⟩ := (h1.2.2.1 p kp).2 j hj
            exact ⟨j1, by omega⟩
          · obtain ⟨p', hp', q1, q2⟩ := hk kx
            cases hp'
            cases hL : L p with
            | none => exact absurd ⟨q1, hxp⟩ ((h1.2.2.1 p kp).1 hL x kx)
            | some j =>
              obtain ⟨j1, j2, j3, j4⟩ := (h1.2.2.1 p kp).2 j hL
              exact ⟨j, rfl, by omega, by omega⟩
  refine GM.of rfl rfl rfl ?_
  (repeat (refine GW.pl rfl rfl ?_))
  refine GW.getr rfl rfl (GHas.at tA rfl) h3.2.1 ?_
  refine GW.nul rfl rfl rfl ?_
  (repeat (refine GW.pl rfl rfl ?_))
  refine GW.c1 rfl rfl (by first | exact Or.inl rfl | exact Or.inr (grecv_at (by assumption)) | exact Or.inr (grecv_c (by assumption)) | exact Or.inr (grecv_c (SIs.cls (by assumption))) | exact Or.inr (grecv_at (BSb.at (by assumption)))) (by first | exact Or.inl (by decide) | exact Or.inr (gnewv_at (by assumption))) rfl (G_rnn (by rw [kA]; decide)) ?_; rintro _ _ ⟨rfl, rfl⟩
  (repeat (refine GW.pl rfl rfl ?_))
  refine GW.cast rfl (gcast_c kA rfl rfl) ?_
  (repeat (refine GW.pl rfl rfl ?_))
  refine GW.getr rfl rfl (GHas.at tA rfl) h3.2.2.1 ?_
  (iterate 1 (refine GW.pl rfl rfl ?_))
  refine loop 129 rt none (fun p hp => ?_) (fun kx => ?_)
  · obtain ⟨r1, r2, r3, r4⟩ := h1.2.2.2.2.2.2 p hp
    exact ⟨r1, by omega⟩
  · cases hr : rt with
    | none => exact absurd kx (h1.2.2.2.2.2.1 hr x)
    | some r =>
      obtain ⟨r1, r2, r3, r4⟩ := h1.2.2.2.2.2.2 r hr
      exact ⟨r, rfl, by omega, by omega⟩
theorem G_tmGet (h : TMs g t M N) {x : Int} (hx : 0 ≤ x ∧ x < 128) : GE (d + 5) gk_J5_get [aR t, aR (x + 128).toNat] g (vR (M x)) := by
  have tA := h.at
  have hh := h
  obtain ⟨lo, hi, L, R, P, rt, h1, h2, h3, h4, h5, h6⟩ := h
  refine GM.of rfl rfl rfl ?_
  (repeat (refine GW.pl rfl rfl ?_))
  refine GW.c2 rfl rfl (by first | exact Or.inl rfl | exact Or.inr (grecv_at (by assumption)) | exact Or.inr (grecv_c (by assumption)) | exact Or.inr (grecv_c (SIs.cls (by assumption))) | exact Or.inr (grecv_at (BSb.at (by assumption)))) (by first | exact Or.inl (by decide) | exact Or.inr (gnewv_at (by assumption))) rfl (G_tmEnt hh hx) ?_; rintro _ _ ⟨rfl, rfl⟩
  (repeat (refine GW.pl rfl rfl ?_))
  cases hz : M x with
  | none =>
    refine GW.nul rfl rfl rfl ?_
    (repeat (refine GW.pl rfl rfl ?_))
    exact GW.aret rfl rfl ⟨_, rfl, rfl, rfl⟩
  | some v =>
    have kx : Kd M x := by unfold Kd; rw [hz]; exact fun z => by cases z
    have nA := h3.nat kx
    refine GW.nul rfl rfl (gok_at nA rfl) ?_
    (repeat (refine GW.pl rfl rfl ?_))
    have e : gfr g 129 (N x) = some v := by
      have := (h3.2.2.2.1 x kx).2.2.1
      unfold vd at this
      rw [hz] at this
      exact this
    refine GW.getr rfl rfl (GHas.at nA rfl) e ?_
    exact GW.aret rfl rfl ⟨_, rfl, rfl, rfl⟩
end Tp
