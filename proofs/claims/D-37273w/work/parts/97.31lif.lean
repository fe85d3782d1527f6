set_option maxRecDepth 100000
/-! JDK methods at the level of objects: strings, StringBuilder -/
section L1
variable {d : Nat} {g : GH} {H : Nat → Obj} {fi : Nat → Nat → Int} {fr : Nat → Nat → Option Nat} {t : Nat} {n : Nat} {ρ : Nat → Nat} {ν : Nat → List Nat}
theorem oStr_inj {s s' : List Int} (h : oStr s = oStr s') : s = s' := congrArg (fun o : Obj => o.2.1) h
theorem kstr_R : ∀ i : Fin 8, ∀ x ∈ kstr.getD i.val [], 0 ≤ x ∧ x < 128 := by decide
/-- a string: a root or a constant -/
theorem RepI.str (h : RepI g ρ ν (H, fi, fr, t)) (hW : GWf g) {s : List Int} (hn : H n = oStr s) : ∃ a, SIs g n s a ∧ n < gsz g ∧ ((a < 1000 ∧ n < 1000) ∨ (ρ a = n ∧ 1000 ≤ n)) := by
  rcases Nat.lt_or_ge n 1000 with w | w
  · have e := hn.symm.trans (h.2.2.1 n w).1
    unfold Hk at e
    split at e
    · rename_i z
      have e := oStr_inj e
      subst e
      obtain ⟨c1, c2, c3, c4, c5⟩ := hW.1 n w
      obtain ⟨d1, d2, d3, d4, d5⟩ := hW.1 (n + 44) (by omega)
      have k1 : kcls n = 13 := by unfold kcls; rw [if_neg (by omega), if_pos (by omega)]
      have k2 : kcls (n + 44) = 101 := by unfold kcls; rw [if_neg (by omega), if_neg (by omega), if_neg (by omega), if_pos (by omega)]
      have e1 : n + 44 - 300 = n - 256 := by omega
      refine ⟨n + 44, ⟨c1.trans k1, ?_, ?_, d1.trans k2, ?_, Nat.le_refl _, fun j hj => ?_, kstr_R ⟨n - 256, by omega⟩⟩, by have := hW.2.2.1; omega, Or.inl ⟨by omega, w⟩⟩
      · refine (c3 92 rfl).1.trans ?_
        unfold kfi; rw [if_neg (fun z => by cases z.1)]
      · refine (c3 91 rfl).2.trans ?_
        unfold kfr; rw [if_pos ⟨rfl, z⟩]
      · refine d2.trans ?_
        unfold klen; rw [if_pos (by omega), e1]
      · refine (d4 j).trans ?_
        unfold kai; rw [if_pos (by omega), e1]
    · exact absurd e (oNe rfl)
  · have hlt : n < gsz g := by
      rcases Nat.lt_or_ge n (gsz g) with w2 | w2
      · exact w2
      · exact absurd (hn.symm.trans (h.2.1 n w2)) (oNe rfl)
    obtain ⟨q1, q2⟩ := h.1 n w hlt (by show H n ≠ oNil; rw [hn]; exact oNe rfl)
    rw [show (H, fi, fr, t).1 n = oStr s from hn] at q2
    obtain ⟨a, h1, h2⟩ := q2
    exact ⟨a, h1, hlt, Or.inr ⟨h2, w⟩⟩
theorem BE.of {mid : Nat} {as : List GV} {v : Option GV} {S : BS} (h : ∀ g ρ ν, RepI g ρ ν S → GWf g → GE d mid as g v) : BE d mid as S v := by
  rintro g ⟨ρ, ν, hR⟩
  refine GM.wf (fun hW => GM.mono (h g ρ ν hR hW) (Nat.le_refl _) ?_)
  rintro r g' _ ⟨w, rfl, rfl, rfl⟩
  exact ⟨S, ⟨ρ, ν, hR⟩, v, rfl, rfl, rfl⟩
theorem B_slen {s : List Int} (hn : H n = oStr s) : BE (d + 2) gk_J10_length [aR n] (H, fi, fr, t) (vI s.length) := BE.of (fun g ρ ν hR hW => by
  obtain ⟨a, h1, -⟩ := hR.str hW hn
  exact G_slen h1)
theorem B_schar {s : List Int} (hn : H n = oStr s) {i : Int} (hi : 0 ≤ i ∧ i < s.length) : BE (d + 4) gk_J10_charAt [aR n, aI i] (H, fi, fr, t) (vI (s.getD i.toNat 0)) := BE.of (fun g ρ ν hR hW => by
  obtain ⟨a, h1, -⟩ := hR.str hW hn
  exact G_schar h1 hi)
theorem B_sidx {s : List Int} (hn : H n = oStr s) {c : Int} (hc : 0 ≤ c ∧ c < 128) : BE (d + 4) gk_J10_indexOf [aR n, aI c] (H, fi, fr, t) (vI (sidx c s 0)) := BE.of (fun g ρ ν hR hW => by
  obtain ⟨a, h1, -⟩ := hR.str hW hn
  exact G_sidx h1 hc)
theorem B_seq {n' : Nat} {s s' : List Int} (hn : H n = oStr s) (hn' : H n' = oStr s') (hk : 1000 ≤ n ∨ 1000 ≤ n' ∨ n = n') : BE (d + 2) gk_J10_equals [aR n, aR n'] (H, fi, fr, t) (vI (if s = s' then 1 else 0)) := BE.of (fun g ρ ν hR hW => by
  obtain ⟨a, h1, -⟩ := hR.str hW hn
  obtain ⟨a', h1', -⟩ := hR.str hW hn'
  exact G_seq h1 h1' (fun z => by rw [z] at hn; exact oStr_inj (hn.symm.trans hn')) hk)
/-- a new string -/
theorem RepI.newS {g' : GH} {r : Option GV} {s : List Int} {c : Nat} (h : RepI g ρ ν (H, fi, fr, t)) (hW : GWf g) (hN : SNew g g' r s c) : ∃ q, r = vR (some q) ∧ H q = oNil ∧ 1000 ≤ q ∧ Rep g' (upH H q (oStr s), fi, fr, t + c) := by
  obtain ⟨q, a, rfl, hK, q1, q2, q3, q4, q5, q6, q7⟩ := hN
  refine ⟨q, rfl, h.2.1 q q1, q6, fun m => if m < gsz g then ρ m else q, ν, RepI.mk h hW hK (fun _ => False) (fun m _ z => z.elim) (fun m hm => if_pos hm) (fun _ _ _ => rfl) (fun m _ hm => upH_ne (by omega)) (fun m z => z.elim) (fun m hm1 hm2 hne => ?_) (fun m hm => ?_) (fun l xs mc z => z.elim) (Nat.le_refl _)⟩
  · by_cases z : m = q
    · rw [z, upH_eq]
      exact ⟨if_neg (by omega), a, q7, if_neg (by omega)⟩
    · exact absurd ((upH_ne z).trans (h.2.1 m hm1)) hne
  · have := hK.1
    exact (upH_ne (by omega)).trans (h.2.1 m (by omega))
/-- it gives a string: a new one -/
def BSn (H : Nat → Obj) (fi : Nat → Nat → Int) (fr : Nat → Nat → Option Nat) (t : Nat) (s : List Int) (c : Nat) (r : Option GV) (S' : BS) : Prop := ∃ q, r = vR (some q) ∧ H q = oNil ∧ 1000 ≤ q ∧ S' = (upH H q (oStr s), fi, fr, t + c)
theorem BSn.of {mid : Nat} {as : List GV} {s : List Int} {c : Nat} (h : ∀ g ρ ν, RepI g ρ ν (H, fi, fr, t) → GWf g → GMr d mid as g (fun r g' => SNew g g' r s c)) : BMr d mid as (H, fi, fr, t) (BSn H fi fr t s c) := by
  rintro g ⟨ρ, ν, hR⟩
  refine GM.wf (fun hW => GM.mono (h g ρ ν hR hW) (Nat.le_refl _) ?_)
  rintro r g' _ ⟨w, rfl, hN⟩
  obtain ⟨q, rfl, q1, q2, q3⟩ := hR.newS hW hN
  exact ⟨_, q3, _, rfl, q, rfl, q1, q2, rfl⟩
theorem B_valC {c : Int} (hc : 0 ≤ c ∧ c < 128) : BMr (d + 2) gk_J10_valueOf [aI c] (H, fi, fr, t) (BSn H fi fr t [c] 29) := BSn.of (fun g ρ ν hR hW => G_valC hc)
theorem B_intVal {i : Int} (hi : 0 ≤ i ∧ i < 100) : BMr (d + 3) gk_J10_valueOf_2 [aI i] (H, fi, fr, t) (BSn H fi fr t (dg i) 30) := BSn.of (fun g ρ ν hR hW => G_intVal hi)
theorem B_sbStr {s : List Int} {cap : Nat} (hn : H n = oSb s cap) : BMr (d + 6) gk_J9_toString [aR n] (H, fi, fr, t) (BSn H fi fr t s (28 + s.length)) := BSn.of (fun g ρ ν hR hW => by
  obtain ⟨q1, ⟨a, h1, h2⟩, q3, q4⟩ := hR.obj hn rfl rfl
  exact G_sbStr h1)
theorem own9 {a a' : Nat} (h : a' = a ∨ gsz g ≤ a') (ha : ρ a = n) : (if a' < gsz g then ρ a' else n) = n := by
  split
  · rcases h with h | h
    · rw [h]; exact ha
    · omega
  · rfl
/-- a StringBuilder that has changed -/
def BSb9 (H : Nat → Obj) (fi : Nat → Nat → Int) (fr : Nat → Nat → Option Nat) (t n cap : Nat) (s' : List Int) (S' : BS) : Prop := ∃ cap', S' = (upH H n (oSb s' cap'), fi, fr, t + 3 * (cap' - cap)) ∧ cap ≤ cap' ∧ (cap' = cap ∨ cap' ≤ 2 * s'.length)
theorem BSb9.of {mid : Nat} {as : List GV} {s s' : List Int} {cap : Nat} (hn : H n = oSb s cap) (h : ∀ g ρ ν, RepI g ρ ν (H, fi, fr, t) → GWf g → ∀ a, BSb g n s a cap → ρ a = n → GMr d mid as g (fun r g' => r = vR (some n) ∧ SbQ g g' n a cap s')) : BMr d mid as (H, fi, fr, t) (fun r S' => r = vR (some n) ∧ BSb9 H fi fr t n cap s' S') := by
  rintro g ⟨ρ, ν, hR⟩
  refine GM.wf (fun hW => ?_)
  obtain ⟨q1, ⟨a, h1, h2⟩, q3, q4⟩ := hR.obj hn rfl rfl
  refine GM.mono (h g ρ ν hR hW a h1 h2) (Nat.le_refl _) ?_
  rintro r g' _ ⟨w, rfl, rfl, a', cap', hK, hB, p1, p2, p3, p4⟩
  refine ⟨_, ⟨fun m => if m < gsz g then ρ m else n, ν, hR.one (o' := oSb s' cap') hW hK hn rfl rfl rfl (fun m _ z => ?_) (fun m => rfl) rfl ⟨a', hB, own9 p1 h2⟩ (Nat.le_refl _)⟩, _, rfl, rfl, cap', rfl, p3, p4⟩
  rcases z with z | z
  · rw [z]; exact q1
  · rw [z]; exact h2
theorem B_sbAppC {s : List Int} {cap : Nat} (hn : H n = oSb s cap) {c : Int} (hc : 0 ≤ c ∧ c < 128) (hl : s.length < 29000) : BMr (d + 5) gk_J9_append [aR n, aI c] (H, fi, fr, t) (fun r S' => r = vR (some n) ∧ BSb9 H fi fr t n cap (s ++ [c]) S') := BSb9.of hn (fun g ρ ν hR hW a h1 h2 => G_sbAppC h1 hc hl)
theorem B_sbAppI {s : List Int} {cap : Nat} (hn : H n = oSb s cap) {i : Int} (hi : 0 ≤ i ∧ i < 100) (hl : s.length < 29000) : BMr (d + 5) gk_J9_append_2 [aR n, aI i] (H, fi, fr, t) (fun r S' => r = vR (some n) ∧ BSb9 H fi fr t n cap (s ++ dg i) S') := BSb9.of hn (fun g ρ ν hR hW a h1 h2 => G_sbAppI h1 hi hl)
theorem B_sbAppS {s s2 : List Int} {cap m : Nat} (hn : H n = oSb s cap) (hm : H m = oStr s2) (hl : s.length + s2.length < 29000) : BMr (d + 5) gk_J9_append_3 [aR n, aR m] (H, fi, fr, t) (fun r S' => r = vR (some n) ∧ BSb9 H fi fr t n cap (s ++ s2) S') := BSb9.of hn (fun g ρ ν hR hW a h1 h2 => by
  obtain ⟨b, g1, g2, g3⟩ := hR.str hW hm
  refine G_sbAppS h1 g1 (fun z => ?_) hl
  rcases g3 with ⟨y, -⟩ | ⟨y, -⟩
  · have := h1.2.2.2.2.1; omega
  · rw [z, h2] at y
    rw [← y, hn] at hm
    exact oNe (o := oSb s cap) (o' := oStr s2) rfl hm)
theorem B_sbLen {s : List Int} {cap : Nat} (hn : H n = oSb s cap) : BE (d + 2) gk_J9_length [aR n] (H, fi, fr, t) (vI s.length) := BE.of (fun g ρ ν hR hW => by
  obtain ⟨q1, ⟨a, h1, h2⟩, q3, q4⟩ := hR.obj hn rfl rfl
  exact G_sbLen h1)
theorem B_sbAt {s : List Int} {cap : Nat} (hn : H n = oSb s cap) {i : Int} (hi : 0 ≤ i ∧ i < s.length) : BE (d + 4) gk_J9_charAt [aR n, aI i] (H, fi, fr, t) (vI (s.getD i.toNat 0)) := BE.of (fun g ρ ν hR hW => by
  obtain ⟨q1, ⟨a, h1, h2⟩, q3, q4⟩ := hR.obj hn rfl rfl
  exact G_sbAt h1 hi)
theorem B_sbSetL {s : List Int} {cap : Nat} (hn : H n = oSb s cap) : BMr (d + 5) gk_J9_setLength [aR n, aI 0] (H, fi, fr, t) (fun r S' => r = none ∧ S' = (upH H n (oSb [] cap), fi, fr, t)) := by
  rintro g ⟨ρ, ν, hR⟩
  refine GM.wf (fun hW => ?_)
  obtain ⟨q1, ⟨a, h1, h2⟩, q3, q4⟩ := hR.obj hn rfl rfl
  refine GM.mono (G_sbSetL h1) (Nat.le_refl _) ?_
  rintro r g' _ ⟨w, rfl, rfl, hK, hB⟩
  refine ⟨_, ⟨fun m => if m < gsz g then ρ m else n, ν, hR.one (o' := oSb [] cap) hW hK hn rfl rfl rfl (fun m _ z => by rw [z]; exact q1) (fun m => rfl) rfl ⟨a, hB, ?_⟩ (Nat.le_refl _)⟩, _, rfl, rfl, rfl⟩
  exact own9 (Or.inl rfl) h2
end L1
