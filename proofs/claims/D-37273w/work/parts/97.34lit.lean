set_option maxRecDepth 100000
/-! JDK methods at the level of objects: the iterator's set, add, remove; TreeMap -/
section L4
variable {d : Nat} {g : GH} {H : Nat → Obj} {fi : Nat → Nat → Int} {fr : Nat → Nat → Option Nat} {t : Nat} {n : Nat} {ρ : Nat → Nat} {ν : Nat → List Nat}
theorem B_itSet {it l k e j : Nat} {xs : List (Option Nat)} (hi : H it = oIt l k e (j + 1)) (hl : H l = oLl xs e) (hj : j < xs.length) {v : Option Nat} (hv : vOk H v) : BMr (d + 2) gk_J35_set [aR it, aQ v] (H, fi, fr, t) (fun r S' => r = none ∧ S' = (upH H l (oLl (xs.set j v) e), fi, fr, t)) := by
  rintro g ⟨ρ, ν, hR⟩
  refine GM.wf (fun hW => ?_)
  obtain ⟨b1, b2, b3, b4, b5, b6, b7, b8, b9, b10, b11, b12⟩ := hR.it hi hl
  have hlen := b6.2.2.2.2.1
  obtain ⟨nd, hnd⟩ := getE (show j < (ν l).length by omega)
  have e2 : pv (ν l) (j + 1) = some nd := (if_neg (Nat.succ_ne_zero _)).trans hnd
  refine GM.mono (G_itSet b6 b1 hnd e2 (hR.gokO hW hv)) (Nat.le_refl _) ?_
  rintro r g' _ ⟨w, rfl, rfl, hK, hL, hI, hc⟩
  refine ⟨_, ⟨fun m => if m < gsz g then ρ m else l, ν, hR.ll (n := l) (H' := upH H l (oLl (xs.set j v) e)) (t' := t) hW hK hl (fun m => m = l) (fun m hm z => lls_own hR b11 b10 b7 m z) (fun m => rfl) (fun m hm => rfl) (fun m hm => upH_ne hm) (fun m hm => ?_) (fun m _ _ hm _ => hm) (fun m hm => ?_) ⟨_, _, upH_eq, Nat.le_refl _, fun _ => ⟨rfl, hc⟩⟩ (Nat.le_refl _)⟩, _, rfl, rfl, rfl⟩
  · rw [hm, hl]; exact ⟨oNe rfl, b11, b10⟩
  · subst hm
    rw [upH_eq]
    exact ⟨hL, fun m hm => by dsimp only; rw [if_pos ((b6.lt hW).2.1 m hm)]; exact b7 m hm, hc.trans b8, b9⟩
theorem B_itAdd {it l k e lr : Nat} {xs : List (Option Nat)} (hi : H it = oIt l k e lr) (hl : H l = oLl xs e) (hx : xs.length < 1000000) {v : Option Nat} (hv : vOk H v) (ht : t < 1000000000) : BMr (d + 3) gk_J35_add [aR it, aQ v] (H, fi, fr, t) (fun r S' => r = none ∧ S' = (upH (upH H l (oLl (insA xs k v) (e + 1))) it (oIt l (k + 1) (e + 1) 0), fi, fr, t + 16)) := by
  rintro g ⟨ρ, ν, hR⟩
  refine GM.wf (fun hW => ?_)
  obtain ⟨b1, b2, b3, b4, b5, b6, b7, b8, b9, b10, b11, b12⟩ := hR.it hi hl
  have hlen := b6.2.2.2.2.1
  have hll : l < gsz g := (b6.lt hW).1
  refine GM.mono (G_itAdd b6 b1 (by omega) (by omega) (hR.gokO hW hv) (by omega)) (Nat.le_refl _) ?_
  rintro r g' _ ⟨w, rfl, rfl, q, hK, hL, hI, p1, p2, p3⟩
  have hHl : upH (upH H l (oLl (insA xs k v) (e + 1))) it (oIt l (k + 1) (e + 1) 0) l = oLl (insA xs k v) (e + 1) := (upH_ne (fun z => b3 z.symm)).trans upH_eq
  refine ⟨_, ⟨fun m => if m < gsz g then ρ m else l, fun m => if m = l then insA (ν l) k q else ν m, hR.ll (n := l) (H' := upH (upH H l (oLl (insA xs k v) (e + 1))) it (oIt l (k + 1) (e + 1) 0)) (t' := t + 16) hW hK hl (fun m => m = l ∨ m = it) (fun m hm z => ?_) (fun m => rfl) (fun m hm => if_neg (fun z => hm (Or.inl z))) (fun m hm => (upH_ne (fun z => hm (Or.inr z))).trans (upH_ne (fun z => hm (Or.inl z)))) (fun m hm => ?_) (fun m xs2 mc2 hm e9 => ?_) (fun m hm => ?_) ⟨_, _, hHl, Nat.le_succ _, fun z => absurd z (by omega)⟩ (by show t + 15 ≤ _; omega)⟩, _, rfl, rfl, rfl⟩
  · rcases z with z | z
    · rw [z]; exact ⟨b5, Or.inr b4⟩
    · have := lls_own hR b11 b10 b7 m z
      exact ⟨this.1, Or.inl this.2⟩
  · rcases hm with hm | hm
    · rw [hm, hl]; exact ⟨oNe rfl, b11, b10⟩
    · rw [hm, hi]; exact ⟨oNe rfl, b5, b4⟩
  · rcases hm with hm | hm
    · exact hm
    · rw [hm, hi] at e9; exact absurd e9 (oNe rfl)
  · rcases hm with hm | hm
    · subst hm
      rw [hHl]
      refine ⟨by dsimp only; rw [if_pos rfl]; exact hL, fun m hm => ?_, by rw [p3, b8]; omega, by omega⟩
      dsimp only at hm
      rw [if_pos rfl] at hm
      unfold insA at hm
      show (if m < gsz g then ρ m else _) = _
      by_cases z : m < gsz g
      · rw [if_pos z]
        rcases List.mem_append.mp hm with y | y
        · exact b7 m (List.mem_of_mem_take y)
        · rcases List.mem_cons.mp y with y | y
          · omega
          · exact b7 m (List.mem_of_mem_drop y)
      · rw [if_neg z]
    · subst hm
      rw [upH_eq]
      refine ⟨hI.1, hI.2.1, insA xs k v, e + 1, hHl, by dsimp only; rw [if_pos hll]; exact b10, Int.le_refl _, fun _ => ?_⟩
      dsimp only
      rw [if_pos rfl, insA_len (by omega)]
      exact ⟨hI, by omega, by omega⟩
theorem B_itRem {it l k e : Nat} {xs : List (Option Nat)} (hi : H it = oIt l k e k) (hl : H l = oLl xs e) (hx : xs.length < 1000000) (hk : 0 < k) (ht : t < 1000000000) : BMr (d + 2) gk_J35_remove [aR it] (H, fi, fr, t) (fun r S' => r = none ∧ S' = (upH (upH H l (oLl (delA xs (k - 1)) (e + 1))) it (oIt l (k - 1) (e + 1) 0), fi, fr, t + 1)) := by
  rintro g ⟨ρ, ν, hR⟩
  refine GM.wf (fun hW => ?_)
  obtain ⟨b1, b2, b3, b4, b5, b6, b7, b8, b9, b10, b11, b12⟩ := hR.it hi hl
  have hlen := b6.2.2.2.2.1
  have hll : l < gsz g := (b6.lt hW).1
  refine GM.mono (G_itRem b6 b1 (by omega) ⟨hk, by omega⟩ (if_neg (by omega)) (by omega)) (Nat.le_refl _) ?_
  rintro r g' _ ⟨w, rfl, rfl, hK, hL, hI, p3⟩
  have hHl : upH (upH H l (oLl (delA xs (k - 1)) (e + 1))) it (oIt l (k - 1) (e + 1) 0) l = oLl (delA xs (k - 1)) (e + 1) := (upH_ne (fun z => b3 z.symm)).trans upH_eq
  refine ⟨_, ⟨fun m => if m < gsz g then ρ m else l, fun m => if m = l then delA (ν l) (k - 1) else ν m, hR.ll (n := l) (H' := upH (upH H l (oLl (delA xs (k - 1)) (e + 1))) it (oIt l (k - 1) (e + 1) 0)) (t' := t + 1) hW hK hl (fun m => m = l ∨ m = it) (fun m hm z => ?_) (fun m => rfl) (fun m hm => if_neg (fun z => hm (Or.inl z))) (fun m hm => (upH_ne (fun z => hm (Or.inr z))).trans (upH_ne (fun z => hm (Or.inl z)))) (fun m hm => ?_) (fun m xs2 mc2 hm e9 => ?_) (fun m hm => ?_) ⟨_, _, hHl, Nat.le_succ _, fun z => absurd z (by omega)⟩ (by show t + 0 ≤ _; omega)⟩, _, rfl, rfl, rfl⟩
  · rcases z with z | z
    · rw [z]; exact ⟨b5, Or.inr b4⟩
    · have := lls_own hR b11 b10 b7 m z
      exact ⟨this.1, Or.inl this.2⟩
  · rcases hm with hm | hm
    · rw [hm, hl]; exact ⟨oNe rfl, b11, b10⟩
    · rw [hm, hi]; exact ⟨oNe rfl, b5, b4⟩
  · rcases hm with hm | hm
    · exact hm
    · rw [hm, hi] at e9; exact absurd e9 (oNe rfl)
  · rcases hm with hm | hm
    · subst hm
      rw [hHl]
      refine ⟨by dsimp only; rw [if_pos rfl]; exact hL, fun m hm => ?_, by rw [p3, b8]; omega, by omega⟩
      dsimp only at hm
      rw [if_pos rfl] at hm
      unfold delA at hm
      rcases List.mem_append.mp hm with y | y
      · have hm2 := List.mem_of_mem_take y
        show (if m < gsz g then ρ m else _) = _
        rw [if_pos ((b6.lt hW).2.1 m hm2)]; exact b7 m hm2
      · have hm2 := List.mem_of_mem_drop y
        show (if m < gsz g then ρ m else _) = _
        rw [if_pos ((b6.lt hW).2.1 m hm2)]; exact b7 m hm2
    · subst hm
      rw [upH_eq]
      refine ⟨hI.1, hI.2.1, delA xs (k - 1), e + 1, hHl, by dsimp only; rw [if_pos hll]; exact b10, Int.le_refl _, fun _ => ?_⟩
      dsimp only
      rw [if_pos rfl, delA_len (by omega)]
      exact ⟨hI, by omega, by omega⟩
theorem B_llIt {l mc : Nat} {xs : List (Option Nat)} (hn : H l = oLl xs mc) (hl : xs.length < 1000000) : BMr (d + 4) gk_J1_listIterator [aR l] (H, fi, fr, t) (fun r S' => ∃ it, r = vR (some it) ∧ H it = oNil ∧ 1000 ≤ it ∧ S' = (upH H it (oIt l 0 mc 0), fi, fr, t + 17)) := by
  rintro g ⟨ρ, ν, hR⟩
  refine GM.wf (fun hW => ?_)
  obtain ⟨q1, ⟨h1, h2, h3, h4⟩, q3, q4⟩ := hR.obj hn rfl rfl
  have hlen := h1.2.2.2.2.1
  refine GM.mono (G_llIt h1 (by omega)) (Nat.le_refl _) ?_
  rintro r g' _ ⟨w, rfl, it, rfl, p1, p2, hK, hI⟩
  have h0 : H it = oNil := hR.2.1 it (by omega)
  have hne : l ≠ it := fun z => by rw [← z, hn] at h0; exact absurd h0 (oNe rfl)
  refine ⟨_, ⟨fun m => if m < gsz g then ρ m else it, ν, RepI.mk (H' := upH H it (oIt l 0 mc 0)) (t' := t + 17) hR hW hK (fun _ => False) (fun m _ z => z.elim) (fun m hm => if_pos hm) (fun _ _ _ => rfl) (fun m _ hm => upH_ne (by omega)) (fun m z => z.elim) (fun m hm1 hm2 _ => ?_) (fun m hm => ?_) (fun l xs mc z => z.elim) (Nat.le_refl _)⟩, _, rfl, it, rfl, h0, by have := hW.2.2.1; omega, rfl⟩
  · have e : m = it := by omega
    subst e
    rw [upH_eq]
    refine ⟨if_neg (by omega), hI.1, hI.2.1, xs, mc, (upH_ne hne).trans hn, by dsimp only; rw [if_pos q3]; exact q1, Int.le_refl _, fun _ => ⟨hI, by omega, by omega⟩⟩
  · have := hK.1
    exact (upH_ne (by omega)).trans (hR.2.1 m (by omega))
/-- TreeMap -/
theorem B_tmGet {M : Int → Option Nat} (hn : H n = oTm M) {x : Int} (hx : 0 ≤ x ∧ x < 128) : BE (d + 5) gk_J5_get [aR n, aR (x + 128).toNat] (H, fi, fr, t) (vR (M x)) := BE.of (fun g ρ ν hR hW => by
  obtain ⟨q1, ⟨N, h1, h2, h3⟩, q3, q4⟩ := hR.obj hn rfl rfl
  exact G_tmGet h1 hx)
theorem tm_own {M : Int → Option Nat} {N : Int → Nat} (q1 : ρ n = n) (h2 : ∀ k, Kd M k → ρ (N k) = n) : ∀ m, TmS n (Kd M) N m → ρ m = n := fun m z => by
  rcases z with z | ⟨k, hk, z⟩
  · rw [z]; exact q1
  · rw [z]; exact h2 k hk
theorem B_tmClr {M : Int → Option Nat} (hn : H n = oTm M) (ht : t < 1000000000) : BMr (d + 1) gk_J5_clear [aR n] (H, fi, fr, t) (fun r S' => r = none ∧ S' = (upH H n (oTm (fun _ => none)), fi, fr, t + 1)) := by
  rintro g ⟨ρ, ν, hR⟩
  refine GM.wf (fun hW => ?_)
  obtain ⟨q1, ⟨N, h1, h2, h3⟩, q3, q4⟩ := hR.obj hn rfl rfl
  refine GM.mono (G_tmClr h1 (by omega)) (Nat.le_refl _) ?_
  rintro r g' _ ⟨w, rfl, rfl, hK, hA', p5⟩
  exact ⟨_, ⟨fun m => if m < gsz g then ρ m else n, ν, hR.one (o' := oTm (fun _ => none)) (t' := t + 1) hW hK hn rfl rfl rfl (fun m _ z => by rw [z]; exact q1) (fun m => rfl) rfl ⟨fun _ => 0, hA', fun k hk => absurd rfl hk, by rw [p5]; omega⟩ (by show t + 0 ≤ _; omega)⟩, _, rfl, rfl, rfl⟩
theorem RepI.tmQ {g' : GH} {M : Int → Option Nat} {N : Int → Nat} {x : Int} {v : Nat} (hR : RepI g ρ ν (H, fi, fr, t)) (hW : GWf g) (hn : H n = oTm M) (q1 : ρ n = n) (h1 : TMs g n M N) (h2 : ∀ k, Kd M k → ρ (N k) = n) (h3 : gfi g 124 n ≤ t) (hQ : TmQ g g' n M N x v) : Rep g' (upH H n (oTm (upM M x (some v))), fi, fr, t + 19) := by
  obtain ⟨N', hK, hT, p1, p2, p3, p4, p5⟩ := hQ
  have hlt := h1.lt hW
  refine ⟨fun m => if m < gsz g then ρ m else n, ν, hR.one (o' := oTm (upM M x (some v))) (t' := t + 19) hW hK hn rfl rfl rfl (fun m _ z => tm_own q1 h2 m z) (fun m => rfl) rfl ⟨N', hT, fun k hk => ?_, by omega⟩ (by show t + 18 ≤ _; omega)⟩
  dsimp only
  rw [Kd_up] at hk
  by_cases c : k = x
  · subst c
    cases hz : M k with
    | none => rw [if_neg (by have := (p2 hz).1; omega)]
    | some w =>
      have hkd : Kd M k := by unfold Kd; rw [hz]; exact fun z => by cases z
      rw [p3 (by rw [hz]; exact fun z => by cases z), if_pos (hlt.2 k hkd)]
      exact h2 k hkd
  · have kk := hk.resolve_right c
    rw [p1 k c, if_pos (hlt.2 k kk)]
    exact h2 k kk
theorem B_tmPut {M : Int → Option Nat} (hn : H n = oTm M) {x : Int} (hx : 0 ≤ x ∧ x < 128) {v : Nat} (hv : vOk H (some v)) (ht : t < 1000000000) : BMr (d + 7) gk_J5_put_2 [aR n, aR (x + 128).toNat, aR v] (H, fi, fr, t) (fun r S' => r = vR (M x) ∧ S' = (upH H n (oTm (upM M x (some v))), fi, fr, t + 19)) := by
  rintro g ⟨ρ, ν, hR⟩
  refine GM.wf (fun hW => ?_)
  obtain ⟨q1, ⟨N, h1, h2, h3⟩, q3, q4⟩ := hR.obj hn rfl rfl
  refine GM.mono (G_tmPut1 h1 hx (hR.gokO hW hv) (by omega)) (Nat.le_refl _) ?_
  rintro r g' _ ⟨w, rfl, rfl, hQ⟩
  exact ⟨_, hR.tmQ hW hn q1 h1 h2 h3 hQ, _, rfl, rfl, rfl⟩
theorem B_tmPutA {M : Int → Option Nat} (hn : H n = oTm M) {x : Int} (hx : 0 ≤ x ∧ x < 128) {v : Nat} (hv : vOk H (some v)) (ht : t < 1000000000) : BMr (d + 7) gk_J5_putIfAbsent [aR n, aR (x + 128).toNat, aR v] (H, fi, fr, t) (fun r S' => r = vR (M x) ∧ (M x = none → S' = (upH H n (oTm (upM M x (some v))), fi, fr, t + 19)) ∧ (M x ≠ none → S' = (H, fi, fr, t))) := by
  rintro g ⟨ρ, ν, hR⟩
  refine GM.wf (fun hW => ?_)
  obtain ⟨q1, ⟨N, h1, h2, h3⟩, q3, q4⟩ := hR.obj hn rfl rfl
  refine GM.mono (G_tmPutA h1 hx (hR.gokO hW hv) (by omega)) (Nat.le_refl _) ?_
  rintro r g' _ ⟨w, rfl, rfl, hQ, hQ2⟩
  by_cases c : M x = none
  · exact ⟨_, hR.tmQ hW hn q1 h1 h2 h3 (hQ c), _, rfl, rfl, fun _ => rfl, fun z => absurd c z⟩
  · have e := hQ2 c
    rw [e]
    exact ⟨_, ⟨ρ, ν, hR⟩, _, rfl, rfl, fun z => absurd z c, fun _ => rfl⟩
theorem B_tmRem {M : Int → Option Nat} (hn : H n = oTm M) {x : Int} (hx : 0 ≤ x ∧ x < 128) (ht : t < 1000000000) : BMr (d + 5) gk_J5_remove [aR n, aR (x + 128).toNat] (H, fi, fr, t) (fun r S' => r = vR (M x) ∧ S' = (upH H n (oTm (upM M x none)), fi, fr, t + 1)) := by
  rintro g ⟨ρ, ν, hR⟩
  refine GM.wf (fun hW => ?_)
  obtain ⟨q1, ⟨N, h1, h2, h3⟩, q3, q4⟩ := hR.obj hn rfl rfl
  have hlt := h1.lt hW
  refine GM.mono (G_tmRem h1 hx (by omega)) (Nat.le_refl _) ?_
  rintro r g' _ ⟨w, rfl, rfl, hQ, hQ2⟩
  by_cases c : Kd M x
  · obtain ⟨N', hK, hT, p1, p2, p3⟩ := hQ c
    refine ⟨_, ⟨fun m => if m < gsz g then ρ m else n, ν, hR.one (o' := oTm (upM M x none)) (t' := t + 1) hW hK hn rfl rfl rfl (fun m _ z => tm_own q1 h2 m z) (fun m => rfl) rfl ⟨N', hT, fun k hk => ?_, by omega⟩ (by show t + 0 ≤ _; omega)⟩, _, rfl, rfl, rfl⟩
    obtain ⟨j, hj, e⟩ := p1 k hk
    dsimp only
    rw [e, if_pos (hlt.2 j hj)]
    exact h2 j hj
  · have e9 := hQ2 c
    rw [e9]
    have e : upM M x none = M := by
      funext k
      unfold upM
      by_cases z : k = x
      · rw [if_pos z, z]
        cases hz : M x with
        | none => rfl
        | some w => exact absurd (by unfold Kd; rw [hz]; exact fun z => by cases z) c
      · rw [if_neg z]
    rw [e]
    refine ⟨_, ⟨fun m => if m < gsz g then ρ m else n, ν, hR.one (c := 0) (Sx := fun _ => False) (o' := oTm M) (t' := t + 1) hW Kp.rf hn rfl rfl rfl (fun m _ z => z.elim) (fun m => rfl) rfl ⟨N, h1, fun k hk => ?_, by omega⟩ (by show t + 0 ≤ _; omega)⟩, _, rfl, rfl, rfl⟩
    dsimp only
    rw [if_pos (hlt.2 k hk)]; exact h2 k hk
end L4
