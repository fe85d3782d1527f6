set_option maxRecDepth 100000
/-! TREEMAP: put, putIfAbsent -/
section Tq
variable {d : Nat} {g : GH} {t : Nat} {M : Int → Option Nat} {N : Int → Nat} {lo hi : Int → Int} {L R P : Int → Option Int} {rt : Option Int}
def EnQ (g g' : GH) (q : Nat) (k v p : Option Nat) : Prop := Kp g g' (fun _ => False) 18 ∧ GAt g' q 22 ∧ gfr g' 128 q = k ∧ gfr g' 129 q = v ∧ gfr g' 130 q = none ∧ gfr g' 131 q = none ∧ gfr g' 132 q = p ∧ gfi g' 133 q = 1 ∧ gsz g' = gsz g + 1
theorem G_enew {q : Nat} (hW : GWf g) (hq : q = gsz g) (hA : GAt (gnew g 22 0 6) q 22) (k v p : Option Nat) : GMr (d + 1) gk_J30_init [aR q, aQ k, aQ v, aQ p] (gnew g 22 0 6) (fun r g' => r = none ∧ EnQ g g' q k v p) := by
  refine GM.of rfl rfl rfl ?_
  (repeat (refine GW.pl rfl rfl ?_))
  refine GW.oini rfl (And.right (show GAt _ _ _ by assumption)) (Nat.le_of_ble_eq_true rfl) ?_
  (repeat (refine GW.pl rfl rfl ?_))
  first | (refine GW.puti rfl rfl (by assumption) rfl (by first | omega | decide | (constructor <;> first | omega | decide)) ?_) | (refine GW.putz rfl rfl (by assumption) rfl (by first | omega | decide | (constructor <;> first | omega | decide)) ?_) | (refine GW.putb rfl rfl (by assumption) rfl (by first | omega | decide | (constructor <;> first | omega | decide)) ?_) | (refine GW.putc rfl rfl (by assumption) rfl (by first | omega | decide | (constructor <;> first | omega | decide)) ?_) | (refine GW.putr rfl rfl (by assumption) rfl ?_)
  (repeat (refine GW.pl rfl rfl ?_))
  first | (refine GW.puti rfl rfl (by assumption) rfl (by first | omega | decide | (constructor <;> first | omega | decide)) ?_) | (refine GW.putz rfl rfl (by assumption) rfl (by first | omega | decide | (constructor <;> first | omega | decide)) ?_) | (refine GW.putb rfl rfl (by assumption) rfl (by first | omega | decide | (constructor <;> first | omega | decide)) ?_) | (refine GW.putc rfl rfl (by assumption) rfl (by first | omega | decide | (constructor <;> first | omega | decide)) ?_) | (refine GW.putr rfl rfl (by assumption) rfl ?_)
  (repeat (refine GW.pl rfl rfl ?_))
  first | (refine GW.puti rfl rfl (by assumption) rfl (by first | omega | decide | (constructor <;> first | omega | decide)) ?_) | (refine GW.putz rfl rfl (by assumption) rfl (by first | omega | decide | (constructor <;> first | omega | decide)) ?_) | (refine GW.putb rfl rfl (by assumption) rfl (by first | omega | decide | (constructor <;> first | omega | decide)) ?_) | (refine GW.putc rfl rfl (by assumption) rfl (by first | omega | decide | (constructor <;> first | omega | decide)) ?_) | (refine GW.putr rfl rfl (by assumption) rfl ?_)
  (repeat (refine GW.pl rfl rfl ?_))
  first | (refine GW.puti rfl rfl (by assumption) rfl (by first | omega | decide | (constructor <;> first | omega | decide)) ?_) | (refine GW.putz rfl rfl (by assumption) rfl (by first | omega | decide | (constructor <;> first | omega | decide)) ?_) | (refine GW.putb rfl rfl (by assumption) rfl (by first | omega | decide | (constructor <;> first | omega | decide)) ?_) | (refine GW.putc rfl rfl (by assumption) rfl (by first | omega | decide | (constructor <;> first | omega | decide)) ?_) | (refine GW.putr rfl rfl (by assumption) rfl ?_)
  refine GW.ret rfl rfl ⟨_, rfl, rfl, ?_, hA, ?_, ?_, ?_, ?_, gfr_eq, gfi_eq (g := gnew g 22 0 6), rfl⟩
  · exact (Kp.new (s := 6) hW).trans ((((Kp.fi (S := fun k => k = q) (F := 133) (n := q) (x := 1) rfl rfl).tr (Kp.fr rfl rfl)).tr (Kp.fr rfl rfl)).tr (Kp.fr rfl rfl)) (fun k hk z => by omega)
  · simp only [gfr_sfr, gfr_sfi, gfi_sfi, gfi_sfr, Nat.reduceEqDiff, false_and, true_and, and_true, reduceIte]
  · simp only [gfr_sfr, gfr_sfi, gfi_sfi, gfi_sfr, Nat.reduceEqDiff, false_and, true_and, and_true, reduceIte]
  · simp only [gfr_sfr, gfr_sfi, gfi_sfi, gfi_sfr, Nat.reduceEqDiff, false_and, true_and, and_true, reduceIte]
    exact gnew_fr hq
  · simp only [gfr_sfr, gfr_sfi, gfi_sfi, gfi_sfr, Nat.reduceEqDiff, false_and, true_and, and_true, reduceIte]
    exact gnew_fr hq
/-- a new leaf, not yet hung below its parent -/
theorem TLk.add {g1 : GH} {x p : Int} {q v : Nat} (H : TSh (Kd M) lo hi L R P rt) (h : TLk g t (Kd M) N (fun k => k) (vd M) L R P rt) (hW : GWf g) (hE : EnQ g g1 q (some (x + 128).toNat) (some v) (some (N p))) (hq : q = gsz g) (kp : Kd M p) (hx : M x = none) (hx2 : 0 ≤ x ∧ x < 128) (hv : gokO g (some v) = true) :
    TLk g1 t (fun k => Kd M k ∨ k = x) (fun k => if k = x then q else N k) (fun k => k) (vd (upM M x (some v))) (fun a => if a = x then none else L a) (fun a => if a = x then none else R a) (fun a => if a = x then some p else P a) rt := by
  obtain ⟨a1, a2, a3, a4, a5, a6, a7⟩ := id h
  obtain ⟨e1, e2, e3, e4, e5, e6, e7, e8, e9⟩ := hE
  have nx : ¬ Kd M x := fun z => z hx
  have ht : t < gsz g := hW.lt (by rw [a1.1]; decide)
  have hN : ∀ k, Kd M k → N k < gsz g := fun k hk => hW.lt (by rw [(a4 k hk).1.1]; decide)
  have st := e1.2.2.1 t ht (fun z => z)
  have mapN : ∀ o : Option Int, (∀ k, o = some k → Kd M k) → o.map N = o.map (fun k => if k = x then q else N k) := by
    intro o ho
    cases o with
    | none => rfl
    | some k =>
      show some (N k) = some (if k = x then q else N k)
      rw [if_neg (fun (z : k = x) => nx (z ▸ ho k rfl))]
  refine ⟨⟨st.1.trans a1.1, a1.2⟩, (st.2.2.2.1 _).trans a2, ?_, fun k hk => ?_, fun j k hj hk hjk => ?_, fun k hk => ?_, fun k hk => ?_⟩
  · rw [← mapN rt (fun k hk => (H.2.2.2.2.2.2 k hk).1)]
    exact (st.2.2.2.1 _).trans a3
  · by_cases c : k = x
    · subst c
      dsimp only
      rw [if_pos rfl, if_pos rfl, if_pos rfl, if_pos rfl]
      refine ⟨e2, e3, ?_, e5, e6, ?_⟩
      · rw [e4]; unfold vd upM; rw [if_pos rfl]; rfl
      · rw [e7]
        show some (N p) = some (if p = k then q else N p)
        rw [if_neg (fun (z : p = k) => nx (z ▸ kp))]
    · have kk := hk.resolve_right c
      obtain ⟨b1, b2, b3, b4, b5, b6⟩ := a4 k kk
      have kn := e1.2.2.1 (N k) (hN k kk) (fun z => z)
      dsimp only
      rw [if_neg c, if_neg c, if_neg c, if_neg c, ← mapN _ (H.vL kk), ← mapN _ (H.vR kk), ← mapN _ (H.vP kk)]
      refine ⟨⟨kn.1.trans b1.1, b1.2⟩, (kn.2.2.2.1 _).trans b2, ?_, (kn.2.2.2.1 _).trans b4, (kn.2.2.2.1 _).trans b5, (kn.2.2.2.1 _).trans b6⟩
      rw [kn.2.2.2.1, b3]
      unfold vd upM
      rw [if_neg c]
  · have jk : (if j = x then q else N j) = (if k = x then q else N k) := hjk
    by_cases c : j = x
    · rw [if_pos c] at jk
      by_cases c2 : k = x
      · rw [c, c2]
      · rw [if_neg c2] at jk
        have := hN k (hk.resolve_right c2)
        omega
    · rw [if_neg c] at jk
      by_cases c2 : k = x
      · rw [if_pos c2] at jk
        have := hN j (hj.resolve_right c)
        omega
      · rw [if_neg c2] at jk
        exact a5 j k (hj.resolve_right c) (hk.resolve_right c2) jk
  · by_cases c : k = x
    · have e : vd (upM M x (some v)) k = v := by unfold vd upM; rw [if_pos c]; rfl
      rw [e]
      exact gokO.kp e1 hW hv
    · have e : vd (upM M x (some v)) k = vd M k := by unfold vd upM; rw [if_neg c]
      rw [e]
      exact gokO.kp e1 hW (a6 k (hk.resolve_right c))
  · by_cases c : k = x
    · rw [c]; exact hx2
    · exact a7 k (hk.resolve_right c)
/-- what put leaves -/
def TmQ (g g' : GH) (t : Nat) (M : Int → Option Nat) (N : Int → Nat) (x : Int) (v : Nat) : Prop := ∃ N', Kp g g' (TmS t (Kd M) N) 18 ∧ TMs g' t (upM M x (some v)) N' ∧ (∀ k, k ≠ x → N' k = N k) ∧ (M x = none → gsz g ≤ N' x ∧ N' x < gsz g') ∧ (M x ≠ none → N' x = N x) ∧ gfi g 124 t ≤ gfi g' 124 t ∧ gfi g' 124 t ≤ gfi g 124 t + 1
/-- a new entry below p: on its left or on its right -/
theorem G_tmAddE (H : TSh (Kd M) lo hi L R P rt) (B : TBd (Kd M) lo hi) (h : TLk g t (Kd M) N (fun k => k) (vd M) L R P rt) (hc : clrs g (Kd M) N) (hz : gfi g 123 t ≤ gfi g 124 t ∧ -(gfi g 124 t) ≤ gfi g 123 t) (hm : gfi g 124 t < 2147483646) {x p : Int} {v : Nat} (hx : M x = none) (hx2 : 0 ≤ x ∧ x < 128) (hv : gokO g (some v) = true) (kp : Kd M p) {b : Int}
    (hb : (b = 1 ∧ L p = none ∧ lo p < x ∧ x < p) ∨ (b = 0 ∧ R p = none ∧ p < x ∧ x < hi p)) :
    GMr (d + 3) gk_J5_addEntry [aR t, aR (x + 128).toNat, aR v, aR (N p), aI b] g (fun r g' => r = none ∧ TmQ g g' t M N x v) := by
  refine GMr.wf (fun hW => ?_)
  have hm0 := hW.2.1.1 124 t
  have tA := h.1
  have ht : t < gsz g := hW.lt (by rw [tA.1]; decide)
  have nx : ¬ Kd M x := fun z => z hx
  refine GM.of rfl rfl rfl ?_
  refine GW.new (L := 6) (c := 22) rfl rfl rfl (fun q hq hAq => ?_)
  (repeat (refine GW.pl rfl rfl ?_))
  refine GW.c4 rfl rfl (by first | exact Or.inl rfl | exact Or.inr (grecv_at (by assumption)) | exact Or.inr (grecv_c (by assumption)) | exact Or.inr (grecv_c (SIs.cls (by assumption))) | exact Or.inr (grecv_at (BSb.at (by assumption)))) (by first | exact Or.inl (by decide) | exact Or.inr (gnewv_at (by assumption))) rfl (G_enew hW hq hAq (some (x + 128).toNat) (some v) (some (N p))) ?_
  rintro _ g1 ⟨rfl, hE⟩
  have hl1 := TLk.add H h hW hE hq kp hx hx2 hv
  have hE' := hE
  obtain ⟨e1, e2, e3, e4, e5, e6, e7, e8, e9⟩ := hE
  have st := e1.2.2.1 t ht (fun z => z)
  have f123 : gfi g1 123 t = gfi g 123 t := st.2.2.1 _
  have f124 : gfi g1 124 t = gfi g 124 t := st.2.2.1 _
  have hN : ∀ k, Kd M k → N k < gsz g := fun k hk => hW.lt (by rw [(h.nat hk).1]; decide)
  have eNp : (if p = x then q else N p) = N p := if_neg (fun (z : p = x) => nx (z ▸ kp))
  have eNx : (if x = x then q else N x) = q := if_pos rfl
  have clr1 : clrs g1 (fun k => Kd M k ∨ k = x) (fun k => if k = x then q else N k) := by
    intro k hk
    by_cases c : k = x
    · show gfi g1 133 (if k = x then q else N k) = 0 ∨ gfi g1 133 (if k = x then q else N k) = 1
      rw [if_pos c]; exact Or.inr e8
    · show gfi g1 133 (if k = x then q else N k) = 0 ∨ gfi g1 133 (if k = x then q else N k) = 1
      rw [if_neg c]
      have kk := hk.resolve_right c
      rw [(e1.2.2.1 (N k) (hN k kk) (fun z => z)).2.2.1]
      exact hc k kk
  have kx' : Kd M x ∨ x = x := Or.inr rfl
  have kp' : Kd M p ∨ p = x := Or.inl kp
  -- from 16 on
  have fin : ∀ (g2 : GH) (lo hi : Int → Int) (L R P : Int → Option Int) (rt : Option Int), TSh (fun k => Kd M k ∨ k = x) lo hi L R P rt → TBd (fun k => Kd M k ∨ k = x) lo hi → TLk g2 t (fun k => Kd M k ∨ k = x) (fun k => if k = x then q else N k) (fun k => k) (vd (upM M x (some v))) L R P rt → clrs g2 (fun k => Kd M k ∨ k = x) (fun k => if k = x then q else N k) → Kp g1 g2 (fun m => m = N p) 0 → (∀ F n, gfi g2 F n = gfi g1 F n) → GW (d + 2) gm_J5_addEntry 16 [some (aR t), some (aR (x + 128).toNat), some (aR v), some (aR (N p)), some (aI b), some (aR q)] [] g2 (fun r g' => ∃ w, r = .inl w ∧ w = none ∧ TmQ g g' t M N x v) := by
    intro g2 lo hi L R P rt H2 B2 hl2 hc2 hK2 hF2
    have tA2 := hl2.1
    (repeat (refine GW.pl rfl rfl ?_))
    have fx := G_fixI (d := d) (g0 := g2) ⟨H2, B2, hl2, hc2, Kp.rf, fun _ _ _ => rfl⟩ kx'
    rw [eNx] at fx
    refine GW.c2 rfl rfl (by first | exact Or.inl rfl | exact Or.inr (grecv_at (by assumption)) | exact Or.inr (grecv_c (by assumption)) | exact Or.inr (grecv_c (SIs.cls (by assumption))) | exact Or.inr (grecv_at (BSb.at (by assumption)))) (by first | exact Or.inl (by decide) | exact Or.inr (gnewv_at (by assumption))) rfl (fx) ?_
    rintro _ g3 ⟨rfl, lo3, hi3, L3, R3, P3, rt3, H3, B3, hl3, hc3, hK3, hF3⟩
    have tA3 := hl3.1
    have k123 : gfi g3 123 t = gfi g 123 t := (hF3 123 rfl t).trans ((hF2 _ _).trans f123)
    have k124 : gfi g3 124 t = gfi g 124 t := (hF3 124 rfl t).trans ((hF2 _ _).trans f124)
    (repeat (refine GW.pl rfl rfl ?_))
    refine GW.geti rfl rfl (GHas.at tA3 rfl) k123 (fun _ => ?_)
    (repeat (refine GW.pl rfl rfl ?_))
    refine GW.puti rfl rfl tA3 rfl ⟨by omega, by omega⟩ ?_
    (repeat (refine GW.pl rfl rfl ?_))
    refine GW.geti (v := gfi g 124 t) rfl rfl (GHas.at tA3 rfl) ((gfi_nf (g := g3) (F := 123) (n := t) (x := gfi g 123 t + 1) rfl).trans k124) (fun _ => ?_)
    (repeat (refine GW.pl rfl rfl ?_))
    refine GW.puti rfl rfl tA3 rfl ⟨by omega, by omega⟩ ?_
    have z3 : gfi (gsfi (gsfi g3 123 t (gfi g 123 t + 1)) 124 t (gfi g 124 t + 1)) 123 t = gfi g 123 t + 1 := (gfi_nf (g := gsfi g3 123 t (gfi g 123 t + 1)) (F := 124) (n := t) rfl).trans gfi_eq
    have z4 : gfi (gsfi (gsfi g3 123 t (gfi g 123 t + 1)) 124 t (gfi g 124 t + 1)) 124 t = gfi g 124 t + 1 := gfi_eq
    have hq3 : q < gsz g3 := by have h1 := hK2.1; have h2 := hK3.1; omega
    refine GW.ret rfl rfl ⟨_, rfl, rfl, fun k => if k = x then q else N k, ?_, ⟨lo3, hi3, L3, R3, P3, rt3, ?_, ?_, ?_, ?_, by rw [z3, z4]; omega, by rw [z3, z4]; omega⟩, fun k hk => if_neg hk, fun _ => ?_, fun z => absurd hx z, by rw [z4]; omega, by rw [z4]; omega⟩
    · have kB : Kp g g2 (TmS t (Kd M) N) 18 := (e1.mono (S' := TmS t (Kd M) N) (Nat.le_refl _) (fun _ _ z => z.elim)).trans hK2 (fun k hk z => Or.inr ⟨p, kp, z⟩)
      have kC : Kp g g3 (TmS t (Kd M) N) 18 := kB.trans hK3 (fun k hk z => by
        rcases z with z | ⟨a, ha, z⟩
        · exact Or.inl z
        · by_cases c : a = x
          · have z : k = if a = x then q else N a := z
            rw [if_pos c] at z; omega
          · have z : k = if a = x then q else N a := z
            rw [if_neg c] at z
            exact Or.inr ⟨a, ha.resolve_right c, z⟩)
      exact kC.trans ((Kp.fi (S := fun m => m = t) (F := 123) (n := t) (x := gfi g 123 t + 1) rfl rfl).tr (Kp.fi rfl rfl)) (fun k hk z => Or.inl z)
    · rw [Kd_up]; exact H3
    · rw [Kd_up]; exact B3
    · rw [Kd_up]; exact hl3
    · rw [Kd_up]
      intro k hk
      show gfi (gsfi (gsfi g3 123 t _) 124 t _) 133 _ = 0 ∨ _
      have e : ∀ n, gfi (gsfi (gsfi g3 123 t (gfi g 123 t + 1)) 124 t (gfi g 124 t + 1)) 133 n = gfi g3 133 n := fun n => (gfi_nf rfl).trans (gfi_nf rfl)
      rw [e]
      exact hc3 k hk
    · show gsz g ≤ (if x = x then q else N x) ∧ (if x = x then q else N x) < gsz g3
      rw [eNx]
      exact ⟨by omega, hq3⟩
  (repeat (refine GW.pl rfl rfl ?_))
  rcases hb with ⟨rfl, hL, h9⟩ | ⟨rfl, hR, h9⟩
  · refine GW.br rfl rfl (by first | omega | decide | (constructor <;> first | omega | decide)) (fun h10 => by first | (exfalso; omega) | exact absurd h10 (by decide)) (fun h10 => ?_)
    (repeat (refine GW.pl rfl rfl ?_))
    refine GW.putr rfl rfl (e1.at hW (h.nat kp) rfl) rfl ?_
    (iterate 1 (refine GW.pl rfl rfl ?_))
    have s := hl1.setL (i := p) kp' (some x)
    dsimp only [Option.map] at s
    rw [eNp, eNx] at s
    exact fin _ _ _ _ _ _ _ (H.addL kp hL nx h9) (B.addL kp) s clr1 (Kp.fr rfl rfl) (fun _ _ => rfl)
  · refine GW.br rfl rfl (by first | omega | decide | (constructor <;> first | omega | decide)) (fun h10 => ?_) (fun h10 => by first | (exfalso; omega) | exact absurd h10 (by decide))
    (repeat (refine GW.pl rfl rfl ?_))
    refine GW.putr rfl rfl (e1.at hW (h.nat kp) rfl) rfl ?_
    have s := hl1.setR (i := p) kp' (some x)
    dsimp only [Option.map] at s
    rw [eNp, eNx] at s
    exact fin _ _ _ _ _ _ _ (H.addR kp hR nx h9) (B.addR kp) s clr1 (Kp.fr rfl rfl) (fun _ _ => rfl)
/-- the first entry -/
theorem G_tmAdd0 (h : TMs g t M N) (he : ∀ k, M k = none) (hr : gfr g 122 t = none) (hm : gfi g 124 t < 2147483646) {x : Int} {v : Nat} (hx2 : 0 ≤ x ∧ x < 128) (hv : gokO g (some v) = true) : GMr (d + 5) gk_J5_addEntryToEmptyMap [aR t, aR (x + 128).toNat, aR v] g (fun r g' => r = none ∧ TmQ g g' t M N x v) := by
  refine GMr.wf (fun hW => ?_)
  obtain ⟨lo, hi, L, R, P, rt, h1, h2, h3, h4, h5, h6⟩ := h
  have tA := h3.1
  have ht : t < gsz g := hW.lt (by rw [tA.1]; decide)
  have hm0 := hW.2.1.1 124 t
  have hkx := key_is hW hx2
  have kA := hkx.1
  have cmp : ∀ d, GE (d + 4) gk_J5_compare [aR t, aR (x + 128).toNat, aR (x + 128).toNat] g (vI 0) := by
    intro d
    refine GM.of rfl rfl rfl ?_
    (repeat (refine GW.pl rfl rfl ?_))
    refine GW.getr rfl rfl (GHas.at tA rfl) h3.2.1 ?_
    refine GW.nul rfl rfl rfl ?_
    (repeat (refine GW.pl rfl rfl ?_))
    refine GW.cast rfl (gcast_c kA rfl rfl) ?_
    (repeat (refine GW.pl rfl rfl ?_))
    refine GW.c2 rfl rfl (by first | exact Or.inl rfl | exact Or.inr (grecv_at (by assumption)) | exact Or.inr (grecv_c (by assumption)) | exact Or.inr (grecv_c (SIs.cls (by assumption))) | exact Or.inr (grecv_at (BSb.at (by assumption)))) (by first | exact Or.inl (by decide) | exact Or.inr (gnewv_at (by assumption))) rfl (G_icmp hkx hkx) ?_; rintro _ _ ⟨rfl, rfl⟩
    have e : cmp9 x x = 0 := by unfold cmp9; rw [if_neg (by omega), if_pos rfl]
    rw [e]
    (repeat (refine GW.pl rfl rfl ?_))
    exact GW.ir1 rfl rfl (by decide) ⟨_, rfl, rfl, rfl⟩
  refine GM.of rfl rfl rfl ?_
  (repeat (refine GW.pl rfl rfl ?_))
  refine GW.c3 rfl rfl (by first | exact Or.inl rfl | exact Or.inr (grecv_at (by assumption)) | exact Or.inr (grecv_c (by assumption)) | exact Or.inr (grecv_c (SIs.cls (by assumption))) | exact Or.inr (grecv_at (BSb.at (by assumption)))) (by first | exact Or.inl (by decide) | exact Or.inr (gnewv_at (by assumption))) rfl (cmp d) ?_; rintro _ _ ⟨rfl, rfl⟩
  (repeat (refine GW.pl rfl rfl ?_))
  refine GW.new (L := 6) (c := 22) rfl rfl rfl (fun q hq hAq => ?_)
  (repeat (refine GW.pl rfl rfl ?_))
  refine GW.c4 rfl rfl (by first | exact Or.inl rfl | exact Or.inr (grecv_at (by assumption)) | exact Or.inr (grecv_c (by assumption)) | exact Or.inr (grecv_c (SIs.cls (by assumption))) | exact Or.inr (grecv_at (BSb.at (by assumption)))) (by first | exact Or.inl (by decide) | exact Or.inr (gnewv_at (by assumption))) rfl (G_enew hW hq hAq (some (x + 128).toNat) (some v) none) ?_
  rintro _ g1 ⟨rfl, e1, e2, e3, e4, e5, e6, e7, e8, e9⟩
  have st := e1.2.2.1 t ht (fun z => z)
  have tA1 : GAt g1 t 21 := ⟨st.1.trans tA.1, tA.2⟩
  have f124 : gfi g1 124 t = gfi g 124 t := st.2.2.1 _
  refine GW.putr rfl rfl tA1 rfl ?_
  (repeat (refine GW.pl rfl rfl ?_))
  refine GW.puti rfl rfl tA1 rfl (by decide) ?_
  (repeat (refine GW.pl rfl rfl ?_))
  refine GW.geti (v := gfi g 124 t) rfl rfl (GHas.at tA1 rfl) ((gfi_nf (g := gsfr g1 122 t (some q)) (F := 123) (n := t) (x := 1) rfl).trans f124) (fun _ => ?_)
  (repeat (refine GW.pl rfl rfl ?_))
  refine GW.puti rfl rfl tA1 rfl ⟨by omega, by omega⟩ ?_
  have hqt : q ≠ t := by omega
  have kd : ∀ k, Kd (upM M x (some v)) k → k = x := fun k hk => by
    rw [Kd_up] at hk
    exact hk.resolve_left (fun z => z (he k))
  have kx : Kd (upM M x (some v)) x := by rw [Kd_up]; exact Or.inr rfl
  have z3 : gfi (gsfi (gsfi (gsfr g1 122 t (some q)) 123 t 1) 124 t (gfi g 124 t + 1)) 123 t = 1 := (gfi_nf (g := gsfi (gsfr g1 122 t (some q)) 123 t 1) (F := 124) (n := t) rfl).trans gfi_eq
  have z4 : gfi (gsfi (gsfi (gsfr g1 122 t (some q)) 123 t 1) 124 t (gfi g 124 t + 1)) 124 t = gfi g 124 t + 1 := gfi_eq
  refine GW.ret rfl rfl ⟨_, rfl, rfl, fun k => if k = x then q else N k, ?_, ⟨fun _ => -1, fun _ => 128, fun _ => none, fun _ => none, fun _ => none, some x, ⟨fun k hk => ?_, fun j k hj hk hjk => ?_, fun k hk => ⟨fun _ y hy => ?_, fun j hj => (by cases hj)⟩, fun k hk => ⟨fun _ y hy => ?_, fun j hj => (by cases hj)⟩, fun k hk => ⟨fun _ => ?_, fun p hp => (by cases hp)⟩, fun z => (by cases z), fun r hr => ?_⟩, fun k hk => ⟨Or.inl rfl, Or.inl rfl⟩, ⟨tA1, ?_, ?_, fun k hk => ?_, fun j k hj hk _ => (kd j hj).trans (kd k hk).symm, fun k hk => ?_, fun k hk => ?_⟩, fun k hk => ?_, by rw [z3, z4]; omega, by rw [z3, z4]; omega⟩, fun k hk => if_neg hk, fun _ => ?_, fun z => absurd (he x) z, by rw [z4]; omega, by rw [z4]; omega⟩
  · exact (e1.mono (S' := TmS t (Kd M) N) (Nat.le_refl _) (fun _ _ z => z.elim)).trans (((Kp.fr (S := fun m => m = t) (F := 122) (n := t) (r := some q) rfl rfl).tr (Kp.fi rfl rfl)).tr (Kp.fi rfl rfl)) (fun k hk z => Or.inl z)
  · have := kd k hk; dsimp only; omega
  · have := kd k hk; have := kd j hj; omega
  · have := kd k hk; have := kd y hy; omega
  · have := kd k hk; have := kd y hy; omega
  · rw [kd k hk]
  · cases hr; exact ⟨kx, rfl, rfl, rfl⟩
  · simp only [gfr_sfr, gfr_sfi, gfi_sfi, gfi_sfr, Nat.reduceEqDiff, false_and, true_and, and_true, reduceIte]
    exact (st.2.2.2.1 _).trans h3.2.1
  · simp only [gfr_sfr, gfr_sfi, gfi_sfi, gfi_sfr, Nat.reduceEqDiff, false_and, true_and, and_true, reduceIte]
    show some q = some (if x = x then q else N x)
    rw [if_pos rfl]
  · have := kd k hk
    subst this
    dsimp only
    rw [if_pos rfl]
    refine ⟨e2, ?_, ?_, ?_, ?_, ?_⟩
    · simp only [gfr_sfr, gfr_sfi, gfi_sfi, gfi_sfr, Nat.reduceEqDiff, false_and, true_and, and_true, reduceIte]
      exact e3
    · simp only [gfr_sfr, gfr_sfi, gfi_sfi, gfi_sfr, Nat.reduceEqDiff, false_and, true_and, and_true, reduceIte]
      rw [e4]; unfold vd upM; rw [if_pos rfl]; rfl
    · simp only [gfr_sfr, gfr_sfi, gfi_sfi, gfi_sfr, Nat.reduceEqDiff, false_and, true_and, and_true, reduceIte]
      exact e5
    · simp only [gfr_sfr, gfr_sfi, gfi_sfi, gfi_sfr, Nat.reduceEqDiff, false_and, true_and, and_true, reduceIte]
      exact e6
    · simp only [gfr_sfr, gfr_sfi, gfi_sfi, gfi_sfr, Nat.reduceEqDiff, false_and, true_and, and_true, reduceIte]
      exact e7
  · have e : vd (upM M x (some v)) k = v := by unfold vd upM; rw [if_pos (kd k hk)]; rfl
    rw [e]
    exact gokO.kp e1 hW hv
  · rw [kd k hk]; exact hx2
  · have := kd k hk
    subst this
    show gfi _ 133 (if k = k then q else N k) = 0 ∨ gfi _ 133 (if k = k then q else N k) = 1
    rw [if_pos rfl]
    simp only [gfr_sfr, gfr_sfi, gfi_sfi, gfi_sfr, Nat.reduceEqDiff, false_and, true_and, and_true, reduceIte]
    exact Or.inr e8
  · show gsz g ≤ (if x = x then q else N x) ∧ (if x = x then q else N x) < gsz g1
    rw [if_pos rfl]
    exact ⟨by omega, by omega⟩
end Tq
