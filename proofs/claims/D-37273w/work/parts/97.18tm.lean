set_option maxRecDepth 100000
/-! TREEMAP: how a shape lies in the heap; rotations, search -/
def TLk (g : GH) (t : Nat) (K : Int → Prop) (N : Int → Nat) (ky : Int → Int) (vl : Int → Nat) (L R P : Int → Option Int) (rt : Option Int) : Prop :=
  GAt g t 21 ∧ gfr g 121 t = none ∧ gfr g 122 t = rt.map N ∧
  (∀ k, K k → GAt g (N k) 22 ∧ gfr g 128 (N k) = some (ky k + 128).toNat ∧ gfr g 129 (N k) = some (vl k) ∧ gfr g 130 (N k) = (L k).map N ∧ gfr g 131 (N k) = (R k).map N ∧ gfr g 132 (N k) = (P k).map N) ∧
  (∀ j k, K j → K k → N j = N k → j = k) ∧ (∀ k, K k → gokO g (some (vl k)) = true) ∧ ∀ k, K k → 0 ≤ ky k ∧ ky k < 128
def TmS (t : Nat) (K : Int → Prop) (N : Int → Nat) : Nat → Prop := fun m => m = t ∨ ∃ k, K k ∧ m = N k
section Tm
variable {d : Nat} {g : GH} {t : Nat} {K : Int → Prop} {N : Int → Nat} {ky : Int → Int} {vl : Int → Nat} {lo hi : Int → Int} {L R P : Int → Option Int} {rt : Option Int}
theorem TLk.nat (h : TLk g t K N ky vl L R P rt) {k : Int} (hk : K k) : GAt g (N k) 22 := (h.2.2.2.1 k hk).1
theorem TLk.fL (h : TLk g t K N ky vl L R P rt) {k : Int} (hk : K k) : gfr g 130 (N k) = (L k).map N := (h.2.2.2.1 k hk).2.2.2.1
theorem TLk.fR (h : TLk g t K N ky vl L R P rt) {k : Int} (hk : K k) : gfr g 131 (N k) = (R k).map N := (h.2.2.2.1 k hk).2.2.2.2.1
theorem TLk.fP (h : TLk g t K N ky vl L R P rt) {k : Int} (hk : K k) : gfr g 132 (N k) = (P k).map N := (h.2.2.2.1 k hk).2.2.2.2.2
theorem TLk.congr {L' R' P' : Int → Option Int} {rt' : Option Int} (h : TLk g t K N ky vl L R P rt) (h1 : ∀ a, K a → L a = L' a) (h2 : ∀ a, K a → R a = R' a) (h3 : ∀ a, K a → P a = P' a) (h4 : rt = rt') : TLk g t K N ky vl L' R' P' rt' := by
  obtain ⟨a1, a2, a3, a4, a5, a6, a7⟩ := h
  refine ⟨a1, a2, h4 ▸ a3, fun k hk => ?_, a5, a6, a7⟩
  obtain ⟨b1, b2, b3, b4, b5, b6⟩ := a4 k hk
  exact ⟨b1, b2, b3, by rw [← h1 k hk]; exact b4, by rw [← h2 k hk]; exact b5, by rw [← h3 k hk]; exact b6⟩
theorem TLk.tn (h : TLk g t K N ky vl L R P rt) {k : Int} (hk : K k) : N k ≠ t := fun z => by
  have := (h.nat hk).1; rw [z, h.1.1] at this; cases this
/-- pointers that are written -/
theorem TLk.setL (h : TLk g t K N ky vl L R P rt) {i : Int} (hi : K i) (o : Option Int) : TLk (gsfr g 130 (N i) (o.map N)) t K N ky vl (fun a => if a = i then o else L a) R P rt := by
  obtain ⟨a1, a2, a3, a4, a5, a6, a7⟩ := id h
  refine ⟨a1, (gfr_nf rfl).trans a2, (gfr_nf rfl).trans a3, fun k hk => ?_, a5, a6, a7⟩
  obtain ⟨b1, b2, b3, b4, b5, b6⟩ := a4 k hk
  refine ⟨b1, (gfr_nf rfl).trans b2, (gfr_nf rfl).trans b3, ?_, (gfr_nf rfl).trans b5, (gfr_nf rfl).trans b6⟩
  show _ = (if k = i then o else L k).map N
  by_cases c : k = i
  · rw [if_pos c, c]; exact gfr_eq
  · rw [if_neg c]; exact (gfr_nn (fun z => c (a5 k i hk hi z))).trans b4
theorem TLk.setR (h : TLk g t K N ky vl L R P rt) {i : Int} (hi : K i) (o : Option Int) : TLk (gsfr g 131 (N i) (o.map N)) t K N ky vl L (fun a => if a = i then o else R a) P rt := by
  obtain ⟨a1, a2, a3, a4, a5, a6, a7⟩ := id h
  refine ⟨a1, (gfr_nf rfl).trans a2, (gfr_nf rfl).trans a3, fun k hk => ?_, a5, a6, a7⟩
  obtain ⟨b1, b2, b3, b4, b5, b6⟩ := a4 k hk
  refine ⟨b1, (gfr_nf rfl).trans b2, (gfr_nf rfl).trans b3, (gfr_nf rfl).trans b4, ?_, (gfr_nf rfl).trans b6⟩
  show _ = (if k = i then o else R k).map N
  by_cases c : k = i
  · rw [if_pos c, c]; exact gfr_eq
  · rw [if_neg c]; exact (gfr_nn (fun z => c (a5 k i hk hi z))).trans b5
theorem TLk.setP (h : TLk g t K N ky vl L R P rt) {i : Int} (hi : K i) (o : Option Int) : TLk (gsfr g 132 (N i) (o.map N)) t K N ky vl L R (fun a => if a = i then o else P a) rt := by
  obtain ⟨a1, a2, a3, a4, a5, a6, a7⟩ := id h
  refine ⟨a1, (gfr_nf rfl).trans a2, (gfr_nf rfl).trans a3, fun k hk => ?_, a5, a6, a7⟩
  obtain ⟨b1, b2, b3, b4, b5, b6⟩ := a4 k hk
  refine ⟨b1, (gfr_nf rfl).trans b2, (gfr_nf rfl).trans b3, (gfr_nf rfl).trans b4, (gfr_nf rfl).trans b5, ?_⟩
  show _ = (if k = i then o else P k).map N
  by_cases c : k = i
  · rw [if_pos c, c]; exact gfr_eq
  · rw [if_neg c]; exact (gfr_nn (fun z => c (a5 k i hk hi z))).trans b6
theorem TLk.setT (h : TLk g t K N ky vl L R P rt) (o : Option Int) : TLk (gsfr g 122 t (o.map N)) t K N ky vl L R P o := by
  obtain ⟨a1, a2, a3, a4, a5, a6, a7⟩ := id h
  refine ⟨a1, (gfr_nf rfl).trans a2, gfr_eq, fun k hk => ?_, a5, a6, a7⟩
  obtain ⟨b1, b2, b3, b4, b5, b6⟩ := a4 k hk
  exact ⟨b1, (gfr_nf rfl).trans b2, (gfr_nf rfl).trans b3, (gfr_nf rfl).trans b4, (gfr_nf rfl).trans b5, (gfr_nf rfl).trans b6⟩
theorem TLk.gok (h : TLk g t K N ky vl L R P rt) {o : Option Int} (ho : ∀ k, o = some k → K k) : gok g (o.map N) = true := by
  cases o with
  | none => rfl
  | some k => exact gok_at (h.nat (ho k rfl)) rfl
/-- the accessors: null-safe -/
theorem G_tmP (h : TLk g t K N ky vl L R P rt) {o : Option Int} (ho : ∀ k, o = some k → K k) : GE (d + 1) gk_J5_parentOf [aQ (o.map N)] g (vR ((o.bind P).map N)) := by
  cases o with
  | none =>
    refine GM.of rfl rfl rfl ?_
    (repeat (refine GW.pl rfl rfl ?_))
    refine GW.nul rfl rfl rfl ?_
    (repeat (refine GW.pl rfl rfl ?_))
    exact GW.aret rfl rfl ⟨_, rfl, rfl, rfl⟩
  | some k =>
    have kk := ho k rfl
    have na := h.nat kk
    refine GM.of rfl rfl rfl ?_
    (repeat (refine GW.pl rfl rfl ?_))
    refine GW.nul rfl rfl (gok_at na rfl) ?_
    (repeat (refine GW.pl rfl rfl ?_))
    refine GW.getr rfl rfl (GHas.at na rfl) (h.fP kk) ?_
    exact GW.aret rfl rfl ⟨_, rfl, rfl, rfl⟩
theorem G_tmL (h : TLk g t K N ky vl L R P rt) {o : Option Int} (ho : ∀ k, o = some k → K k) : GE (d + 1) gk_J5_leftOf [aQ (o.map N)] g (vR ((o.bind L).map N)) := by
  cases o with
  | none =>
    refine GM.of rfl rfl rfl ?_
    (repeat (refine GW.pl rfl rfl ?_))
    refine GW.nul rfl rfl rfl ?_
    (repeat (refine GW.pl rfl rfl ?_))
    exact GW.aret rfl rfl ⟨_, rfl, rfl, rfl⟩
  | some k =>
    have kk := ho k rfl
    have na := h.nat kk
    refine GM.of rfl rfl rfl ?_
    (repeat (refine GW.pl rfl rfl ?_))
    refine GW.nul rfl rfl (gok_at na rfl) ?_
    (repeat (refine GW.pl rfl rfl ?_))
    refine GW.getr rfl rfl (GHas.at na rfl) (h.fL kk) ?_
    exact GW.aret rfl rfl ⟨_, rfl, rfl, rfl⟩
theorem G_tmR (h : TLk g t K N ky vl L R P rt) {o : Option Int} (ho : ∀ k, o = some k → K k) : GE (d + 1) gk_J5_rightOf [aQ (o.map N)] g (vR ((o.bind R).map N)) := by
  cases o with
  | none =>
    refine GM.of rfl rfl rfl ?_
    (repeat (refine GW.pl rfl rfl ?_))
    refine GW.nul rfl rfl rfl ?_
    (repeat (refine GW.pl rfl rfl ?_))
    exact GW.aret rfl rfl ⟨_, rfl, rfl, rfl⟩
  | some k =>
    have kk := ho k rfl
    have na := h.nat kk
    refine GM.of rfl rfl rfl ?_
    (repeat (refine GW.pl rfl rfl ?_))
    refine GW.nul rfl rfl (gok_at na rfl) ?_
    (repeat (refine GW.pl rfl rfl ?_))
    refine GW.getr rfl rfl (GHas.at na rfl) (h.fR kk) ?_
    exact GW.aret rfl rfl ⟨_, rfl, rfl, rfl⟩
def clr (g : GH) (N : Int → Nat) (o : Option Int) : Int := match o with
  | none => 1
  | some k => gfi g 133 (N k)
theorem G_tmC (h : TLk g t K N ky vl L R P rt) {o : Option Int} (ho : ∀ k, o = some k → K k) (hc : ∀ k, K k → gfi g 133 (N k) = 0 ∨ gfi g 133 (N k) = 1) : GE (d + 1) gk_J5_colorOf [aQ (o.map N)] g (vI (clr g N o)) := by
  cases o with
  | none =>
    refine GM.of rfl rfl rfl ?_
    (repeat (refine GW.pl rfl rfl ?_))
    refine GW.nul rfl rfl rfl ?_
    (repeat (refine GW.pl rfl rfl ?_))
    exact GW.ir2 rfl rfl (by decide) ⟨_, rfl, rfl, rfl⟩
  | some k =>
    have kk := ho k rfl
    have na := h.nat kk
    refine GM.of rfl rfl rfl ?_
    (repeat (refine GW.pl rfl rfl ?_))
    refine GW.nul rfl rfl (gok_at na rfl) ?_
    (repeat (refine GW.pl rfl rfl ?_))
    refine GW.geti rfl rfl (GHas.at na rfl) rfl (fun _ => ?_)
    exact GW.ir2 rfl rfl (hc k kk) ⟨_, rfl, rfl, rfl⟩
/-- the links are the same, no other cell than the map's has changed, colours are 0 or 1 -/
def clrs (g : GH) (K : Int → Prop) (N : Int → Nat) : Prop := ∀ k, K k → gfi g 133 (N k) = 0 ∨ gfi g 133 (N k) = 1
theorem G_tmSC (h : TLk g t K N ky vl L R P rt) {o : Option Int} (ho : ∀ k, o = some k → K k) {c : Int} (hc : c = 0 ∨ c = 1) : GMr (d + 1) gk_J5_setColor [aQ (o.map N), aI c] g (fun r g' => r = none ∧ Kp g g' (TmS t K N) 0 ∧ TLk g' t K N ky vl L R P rt ∧ (clrs g K N → clrs g' K N) ∧ (∀ F, (F == 133) = false → ∀ n, gfi g' F n = gfi g F n) ∧ ∀ k, K k → gfi g' 133 (N k) = if o = some k then c else gfi g 133 (N k)) := by
  cases o with
  | none =>
    refine GM.of rfl rfl rfl ?_
    (repeat (refine GW.pl rfl rfl ?_))
    refine GW.nul rfl rfl rfl ?_
    exact GW.ret rfl rfl ⟨_, rfl, rfl, Kp.rf, h, id, fun _ _ _ => rfl, fun k _ => by rw [if_neg (fun z => by cases z)]⟩
  | some k =>
    have kk := ho k rfl
    have na := h.nat kk
    refine GM.of rfl rfl rfl ?_
    (repeat (refine GW.pl rfl rfl ?_))
    refine GW.nul rfl rfl (gok_at na rfl) ?_
    (repeat (refine GW.pl rfl rfl ?_))
    refine GW.putz rfl rfl na rfl hc ?_
    have e : ∀ a, K a → gfi (gsfi g 133 (N k) c) 133 (N a) = if some k = some a then c else gfi g 133 (N a) := by
      intro a ka
      by_cases z : k = a
      · rw [if_pos (by rw [z]), z]; exact gfi_eq
      · rw [if_neg (fun y => z (Option.some.inj y))]
        exact gfi_nn (fun y => z (h.2.2.2.2.1 k a kk ka y.symm))
    refine GW.ret rfl rfl ⟨_, rfl, rfl, Kp.fi rfl (Or.inr ⟨k, kk, rfl⟩), h, fun hh a ka => ?_, fun F hF n => gfi_nf hF, e⟩
    rw [e a ka]
    split
    · exact hc
    · exact hh a ka
theorem TSh.vL (H : TSh K lo hi L R P rt) {p : Int} (hp : K p) : ∀ k, L p = some k → K k := fun k h => ((H.2.2.1 p hp).2 k h).1
theorem TSh.vR (H : TSh K lo hi L R P rt) {p : Int} (hp : K p) : ∀ k, R p = some k → K k := fun k h => ((H.2.2.2.1 p hp).2 k h).1
theorem TSh.vP (H : TSh K lo hi L R P rt) {p : Int} (hp : K p) : ∀ k, P p = some k → K k := fun k h => ((H.2.2.2.2.1 p hp).2 k h).1
theorem TLk.inj (h : TLk g t K N ky vl L R P rt) {o : Option Int} (ho : ∀ k, o = some k → K k) {i : Int} (hi : K i) (e : o.map N = some (N i)) : o = some i := by
  cases o with
  | none => cases e
  | some k => rw [h.2.2.2.2.1 k i (ho k rfl) hi (Option.some.inj e)]
/-- rotateLeft at i, whose right child is j -/
theorem G_rotL (H : TSh K lo hi L R P rt) (h : TLk g t K N ky vl L R P rt) {i j : Int} (ki : K i) (hj : R i = some j) : GMr (d + 1) gk_J5_rotateLeft [aR t, aR (N i)] g (fun r g' => r = none ∧ Kp g g' (TmS t K N) 0 ∧ TLk g' t K N ky vl (rlL L P i j) (rlR L R P i j) (rlP L P i j) (rlRt P rt i j) ∧ ∀ F n, gfi g' F n = gfi g F n) := by
  have kj := H.vR ki j hj
  have hij : i ≠ j := fun z => by have := H.1 j kj; have := (H.2.2.2.1 i ki).2 j hj; omega
  have sN : ∀ k, K k → TmS t K N (N k) := fun k hk => Or.inr ⟨k, hk, rfl⟩
  -- from 41 on
  have fin : ∀ (g1 : GH) (L1 R1 P1 : Int → Option Int) (rt1 : Option Int), TLk g1 t K N ky vl L1 R1 P1 rt1 → Kp g g1 (TmS t K N) 0 → (∀ F n, gfi g1 F n = gfi g F n) → (∀ a, K a → (if a = j then some i else L1 a) = rlL L P i j a) → (∀ a, K a → R1 a = rlR L R P i j a) → (∀ a, K a → (if a = i then some j else P1 a) = rlP L P i j a) → rt1 = rlRt P rt i j → GW d gm_J5_rotateLeft 41 [some (aR t), some (aR (N i)), some (aR (N j))] [] g1 (fun r g' => ∃ v, r = .inl v ∧ v = none ∧ Kp g g' (TmS t K N) 0 ∧ TLk g' t K N ky vl (rlL L P i j) (rlR L R P i j) (rlP L P i j) (rlRt P rt i j) ∧ ∀ F n, gfi g' F n = gfi g F n) := by
    intro g1 L1 R1 P1 rt1 h1 hK hF e1 e2 e3 e4
    (repeat (refine GW.pl rfl rfl ?_))
    refine GW.putr rfl rfl (h1.nat kj) rfl ?_
    have h2 := h1.setL kj (some i)
    (repeat (refine GW.pl rfl rfl ?_))
    refine GW.putr rfl rfl (h2.nat ki) rfl ?_
    have h3 := h2.setP ki (some j)
    exact GW.ret rfl rfl ⟨_, rfl, rfl, hK.tr ((Kp.fr (S := TmS t K N) rfl (sN j kj)).tr (Kp.fr rfl (sN i ki))), h3.congr e1 e2 e3 e4, hF⟩
  -- from 16 on
  have mid : ∀ (g1 : GH) (P1 : Int → Option Int), TLk g1 t K N ky vl L (fun a => if a = i then L j else R a) P1 rt → Kp g g1 (TmS t K N) 0 → (∀ F n, gfi g1 F n = gfi g F n) → (∀ a, P1 a = if L j = some a then some i else P a) → GW d gm_J5_rotateLeft 16 [some (aR t), some (aR (N i)), some (aR (N j))] [] g1 (fun r g' => ∃ v, r = .inl v ∧ v = none ∧ Kp g g' (TmS t K N) 0 ∧ TLk g' t K N ky vl (rlL L P i j) (rlR L R P i j) (rlP L P i j) (rlRt P rt i j) ∧ ∀ F n, gfi g' F n = gfi g F n) := by
    intro g1 P1 h1 hK hF eP
    have nLi : L j ≠ some i := fun z => by have := (H.2.2.1 j kj).2 i z; have := (H.2.2.2.1 i ki).2 j hj; have := H.1 i ki; have := H.1 j kj; omega
    have ePi : P1 i = P i := by rw [eP, if_neg nLi]
    (repeat (refine GW.pl rfl rfl ?_))
    refine GW.getr rfl rfl (GHas.at (h1.nat ki) rfl) (h1.fP ki) ?_
    rw [ePi]
    refine GW.putr rfl rfl (h1.nat kj) rfl ?_
    have h2 := h1.setP kj (P i)
    have ePi2 : (if i = j then P i else P1 i) = P i := by rw [if_neg hij, ePi]
    have hK2 : Kp g (gsfr g1 132 (N j) ((P i).map N)) (TmS t K N) 0 := hK.tr (Kp.fr rfl (sN j kj))
    have eP2 : ∀ a, K a → (if a = i then some j else (if a = j then P i else P1 a)) = rlP L P i j a := by
      intro a _
      unfold rlP
      rw [eP]
    (repeat (refine GW.pl rfl rfl ?_))
    refine GW.getr rfl rfl (GHas.at (h2.nat ki) rfl) (h2.fP ki) ?_
    (try dsimp only)
    rw [ePi2]
    cases hp : P i with
    | none =>
      refine GW.nul rfl rfl rfl ?_
      rw [hp] at h2 hK2
      (repeat (refine GW.pl rfl rfl ?_))
      refine GW.putr rfl rfl h2.1 rfl ?_
      have h3 := h2.setT (some j)
      (iterate 1 (refine GW.pl rfl rfl ?_))
      refine fin _ _ _ _ _ h3 (hK2.tr (Kp.fr rfl (Or.inl rfl))) hF (fun a _ => ?_) (fun a _ => ?_) (fun a ha => ?_) ?_
      · unfold rlL
        rw [hp, if_neg (show ¬ ((none : Option Int) = some a ∧ L a = some i) from fun z => by cases z.1)]
      · unfold rlR
        rw [hp, if_neg (show ¬ ((none : Option Int) = some a ∧ L a ≠ some i) from fun z => by cases z.1)]
      · have := eP2 a ha
        rw [hp] at this
        exact this
      · unfold rlRt; rw [if_pos hp]
    | some p =>
      have kp := H.vP ki p hp
      have hpc := (H.2.2.2.2.1 i ki).2 p hp
      have hpi : p ≠ i := fun z => by
        have b := H.1 i ki
        rcases hpc.2 with y | y
        · have := (H.2.2.1 p kp).2 i y; omega
        · have := (H.2.2.2.1 p kp).2 i y; omega
      have hpj : p ≠ j := fun z => by
        have b := H.1 i ki
        have := (H.2.2.2.1 i ki).2 j hj
        have b2 := H.1 j kj
        rcases hpc.2 with y | y
        · have := (H.2.2.1 p kp).2 i y; omega
        · have := (H.2.2.2.1 p kp).2 i y; omega
      have h2' := h2
      rw [hp] at h2 hK2
      refine GW.nul rfl rfl (gok_at (h2.nat kp) rfl) ?_
      (repeat (refine GW.pl rfl rfl ?_))
      refine GW.getr rfl rfl (GHas.at (h2.nat ki) rfl) (h2.fP ki) ?_
      (try dsimp only)
      have ePi3 : (if i = j then some p else P1 i) = some p := by rw [if_neg hij, ePi, hp]
      rw [ePi3]
      refine GW.getr rfl rfl (GHas.at (h2.nat kp) rfl) (h2.fL kp) ?_
      (repeat (refine GW.pl rfl rfl ?_))
      refine GW.ane rfl (gcan2_at (h2.nat ki) rfl (h2.gok (H.vL kp))) (fun z => ?_) (fun z => ?_)
      · (repeat (refine GW.pl rfl rfl ?_))
        refine GW.getr rfl rfl (GHas.at (h2.nat ki) rfl) (h2.fP ki) ?_
        (try dsimp only)
        rw [ePi3]
        (repeat (refine GW.pl rfl rfl ?_))
        refine GW.putr rfl rfl (h2.nat kp) rfl ?_
        have h3 := h2.setR kp (some j)
        have nl : L p ≠ some i := fun y => z (by rw [y]; rfl)
        refine fin _ _ _ _ _ h3 (hK2.tr (Kp.fr rfl (sN p kp))) hF (fun a _ => ?_) (fun a _ => ?_) (fun a ha => ?_) ?_
        · unfold rlL
          rw [hp, if_neg (show ¬ (some p = some a ∧ L a = some i) from fun y => nl (by rw [Option.some.inj y.1]; exact y.2))]
        · unfold rlR
          rw [hp]
          by_cases c : a = p
          · rw [if_pos c, if_neg (show ¬ a = i by rw [c]; exact hpi), if_pos ⟨by rw [c], by rw [c]; exact nl⟩]
          · rw [if_neg c, if_neg (show ¬ (some p = some a ∧ L a ≠ some i) from fun y => c (Option.some.inj y.1).symm)]
        · have := eP2 a ha
          rw [hp] at this
          exact this
        · unfold rlRt; rw [if_neg (by rw [hp]; exact fun y => by cases y)]
      · have yl : L p = some i := h2.inj (H.vL kp) ki z
        (repeat (refine GW.pl rfl rfl ?_))
        refine GW.getr rfl rfl (GHas.at (h2.nat ki) rfl) (h2.fP ki) ?_
        (try dsimp only)
        rw [ePi3]
        (repeat (refine GW.pl rfl rfl ?_))
        refine GW.putr rfl rfl (h2.nat kp) rfl ?_
        have h3 := h2.setL kp (some j)
        (iterate 1 (refine GW.pl rfl rfl ?_))
        refine fin _ _ _ _ _ h3 (hK2.tr (Kp.fr rfl (sN p kp))) hF (fun a _ => ?_) (fun a _ => ?_) (fun a ha => ?_) ?_
        · unfold rlL
          rw [hp]
          by_cases c : a = j
          · rw [if_pos c, if_pos c]
          · rw [if_neg c, if_neg c]
            by_cases c2 : a = p
            · rw [if_pos c2, if_pos ⟨by rw [c2], by rw [c2]; exact yl⟩]
            · rw [if_neg c2, if_neg (show ¬ (some p = some a ∧ L a = some i) from fun y => c2 (Option.some.inj y.1).symm)]
        · unfold rlR
          rw [hp, if_neg (show ¬ (some p = some a ∧ L a ≠ some i) from fun y => y.2 (by rw [← Option.some.inj y.1]; exact yl))]
        · have := eP2 a ha
          rw [hp] at this
          exact this
        · unfold rlRt; rw [if_neg (by rw [hp]; exact fun y => by cases y)]
  refine GM.of rfl rfl rfl ?_
  (repeat (refine GW.pl rfl rfl ?_))
  refine GW.nul rfl rfl (gok_at (h.nat ki) rfl) ?_
  (repeat (refine GW.pl rfl rfl ?_))
  refine GW.getr rfl rfl (GHas.at (h.nat ki) rfl) (h.fR ki) ?_
  rw [hj]
  (repeat (refine GW.pl rfl rfl ?_))
  refine GW.getr rfl rfl (GHas.at (h.nat kj) rfl) (h.fL kj) ?_
  refine GW.putr rfl rfl (h.nat ki) rfl ?_
  have h1 := h.setR ki (L j)
  have hK1 : Kp g (gsfr g 131 (N i) ((L j).map N)) (TmS t K N) 0 := Kp.fr rfl (sN i ki)
  (repeat (refine GW.pl rfl rfl ?_))
  refine GW.getr rfl rfl (GHas.at (h1.nat kj) rfl) (h1.fL kj) ?_
  cases hc : L j with
  | none =>
    refine GW.nul rfl rfl rfl ?_
    rw [hc] at h1 hK1
    exact mid _ P (h1.congr (fun _ _ => rfl) (fun a _ => by rw [hc]) (fun _ _ => rfl) rfl) hK1 (fun _ _ => rfl) (fun a => by rw [hc, if_neg (show ¬ ((none : Option Int) = some a) from fun z => by cases z)])
  | some c =>
    have kc := H.vL kj c hc
    rw [hc] at h1 hK1
    refine GW.nul rfl rfl (gok_at (h1.nat kc) rfl) ?_
    (repeat (refine GW.pl rfl rfl ?_))
    refine GW.getr rfl rfl (GHas.at (h1.nat kj) rfl) (h1.fL kj) ?_
    rw [hc]
    (repeat (refine GW.pl rfl rfl ?_))
    refine GW.putr rfl rfl (h1.nat kc) rfl ?_
    have h2 := h1.setP kc (some i)
    refine mid _ _ (h2.congr (fun _ _ => rfl) (fun a _ => by rw [hc]) (fun _ _ => rfl) rfl) (hK1.tr (Kp.fr rfl (sN c kc))) (fun _ _ => rfl) (fun a => ?_)
    rw [hc]
    by_cases z : a = c
    · rw [if_pos z, if_pos (by rw [z])]
    · rw [if_neg z, if_neg (fun y => z (Option.some.inj y).symm)]
end Tm
