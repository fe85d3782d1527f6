set_option maxRecDepth 100000
/-! JDK methods at the level of objects: LinkedList, its iterator, TreeMap -/
section L3
variable {d : Nat} {g : GH} {H : Nat → Obj} {fi : Nat → Nat → Int} {fr : Nat → Nat → Option Nat} {t : Nat} {n : Nat} {ρ : Nat → Nat} {ν : Nat → List Nat}
theorem B_llSize {xs : List (Option Nat)} {mc : Nat} (hn : H n = oLl xs mc) : BE (d + 1) gk_J3_size [aR n] (H, fi, fr, t) (vI xs.length) := BE.of (fun g ρ ν hR hW => by
  obtain ⟨q1, ⟨h1, h2, h3, h4⟩, q3, q4⟩ := hR.obj hn rfl rfl
  exact G_llSize h1)
theorem B_llEmp {xs : List (Option Nat)} {mc : Nat} (hn : H n = oLl xs mc) : BE (d + 2) gk_J0_isEmpty [aR n] (H, fi, fr, t) (vI (if xs = [] then 1 else 0)) := BE.of (fun g ρ ν hR hW => by
  obtain ⟨q1, ⟨h1, h2, h3, h4⟩, q3, q4⟩ := hR.obj hn rfl rfl
  exact G_llEmp h1)
theorem B_llGet {xs : List (Option Nat)} {mc : Nat} (hn : H n = oLl xs mc) {i : Nat} (hi : i < xs.length) : BE (d + 3) gk_J3_get [aR n, aI i] (H, fi, fr, t) (vR (xs.getD i none)) := BE.of (fun g ρ ν hR hW => by
  obtain ⟨q1, ⟨h1, h2, h3, h4⟩, q3, q4⟩ := hR.obj hn rfl rfl
  exact G_llGet h1 hi)
/-- a list (and an iterator of it) changes -/
theorem RepI.ll {g' : GH} {ρ' : Nat → Nat} {ν' : Nat → List Nat} {t' c mc : Nat} {Sx : Nat → Prop} {xs : List (Option Nat)} {H' : Nat → Obj} (h : RepI g ρ ν (H, fi, fr, t)) (hW : GWf g) (hK : Kp g g' Sx c) (hn : H n = oLl xs mc) (D : Nat → Prop)
    (hS : ∀ m, m < gsz g → Sx m → 1000 ≤ m ∧ D (ρ m)) (hρ : ∀ m, ρ' m = if m < gsz g then ρ m else n) (hν : ∀ m, ¬ D m → ν' m = ν m) (hH : ∀ m, ¬ D m → H' m = H m) (hd : ∀ m, D m → H m ≠ oNil ∧ 1000 ≤ m ∧ ρ m = m) (hdl : ∀ m xs2 mc2, D m → H m = oLl xs2 mc2 → m = n)
    (hO : ∀ m, D m → ObjIs g' ρ' ν' H' t' m (H' m)) (hl : ∃ xs' mc', H' n = oLl xs' mc' ∧ mc ≤ mc' ∧ (mc' = mc → ν' n = ν n ∧ gfi g' 102 n = gfi g 102 n)) (ht : t + c ≤ t') : RepI g' ρ' ν' (H', fi, fr, t') := by
  have hsz := hW.2.2.1
  have hlt : ∀ m, D m → m < gsz g := fun m hm => by
    rcases Nat.lt_or_ge m (gsz g) with w | w
    · exact w
    · exact absurd (h.2.1 m w) (hd m hm).1
  refine RepI.mk h hW hK D hS (fun m hm => by rw [hρ, if_pos hm]) (fun m _ hm => hν m hm) (fun m hm _ => hH m hm) (fun m hm => ⟨(hd m hm).2.1, fun _ _ => ⟨(hd m hm).2.2, hO m hm⟩⟩) (fun m hm _ hne => ?_) (fun m hm => ?_) (fun l xs2 mc2 hl2 e => ?_) ht
  · by_cases z : D m
    · have := hlt m z; omega
    · exact absurd ((hH m z).trans (h.2.1 m hm)) hne
  · have := hK.1
    by_cases z : D m
    · have := hlt m z; omega
    · exact (hH m z).trans (h.2.1 m (by omega))
  · have e : H l = oLl xs2 mc2 := e
    have := hdl l xs2 mc2 hl2 e
    subst this
    obtain ⟨xs', mc', a1, a2, a3⟩ := hl
    have := (oLl_inj (e.symm.trans hn)).2
    subst this
    exact ⟨xs', mc', a1, a2, a3⟩
/-- addLast -/
theorem B_llAdd {xs : List (Option Nat)} {mc : Nat} (hn : H n = oLl xs mc) {v : Option Nat} (hv : vOk H v) (hl : xs.length < 1000000) (ht : t < 1000000000) : BMr (d + 3) gk_J3_addLast [aR n, aQ v] (H, fi, fr, t) (fun r S' => r = none ∧ S' = (upH H n (oLl (xs ++ [v]) (mc + 1)), fi, fr, t + 16)) := by
  rintro g ⟨ρ, ν, hR⟩
  refine GM.wf (fun hW => ?_)
  obtain ⟨q1, ⟨h1, h2, h3, h4⟩, q3, q4⟩ := hR.obj hn rfl rfl
  have hlen := h1.2.2.2.2.1
  refine GM.mono (G_llAddL h1 (hR.gokO hW hv) (by omega) (by omega)) (Nat.le_refl _) ?_
  rintro r g' _ ⟨w, rfl, rfl, q, hK, hL, p1, p2, p3⟩
  rw [hlen] at hL
  have e2 : insA xs xs.length v = xs ++ [v] := by unfold insA; rw [List.take_length, List.drop_length]
  rw [e2] at hL
  refine ⟨_, ⟨fun m => if m < gsz g then ρ m else n, fun m => if m = n then insA (ν n) xs.length q else ν m, hR.ll (H' := upH H n (oLl (xs ++ [v]) (mc + 1))) (t' := t + 16) hW hK hn (fun m => m = n) (fun m hm z => ?_) (fun m => rfl) (fun m hm => if_neg hm) (fun m hm => upH_ne hm) (fun m hm => ?_) (fun m _ _ hm _ => hm) (fun m hm => ?_) ⟨_, _, upH_eq, Nat.le_succ _, fun z => absurd z (by omega)⟩ (by show t + 15 ≤ _; omega)⟩, _, rfl, rfl, rfl⟩
  · have hm1 : ρ m = n := by
      rcases z with z | z
      · rw [z]; exact q1
      · exact h2 m z
    refine ⟨?_, hm1⟩
    rcases Nat.lt_or_ge m 1000 with y | y
    · have := (hR.2.2.1 m y).2; omega
    · exact y
  · rw [hm, hn]; exact ⟨oNe rfl, q4, q1⟩
  · subst hm
    rw [upH_eq]
    refine ⟨by dsimp only; rw [if_pos rfl]; exact hL, fun m hm => ?_, by rw [p3, h3]; omega, by omega⟩
    dsimp only at hm
    rw [if_pos rfl] at hm
    unfold insA at hm
    show (if m < gsz g then ρ m else _) = _
    by_cases z : m < gsz g
    · rw [if_pos z]
      rcases List.mem_append.mp hm with y | y
      · exact h2 m (List.mem_of_mem_take y)
      · rcases List.mem_cons.mp y with y | y
        · omega
        · exact h2 m (List.mem_of_mem_drop y)
    · rw [if_neg z]
theorem lls_own (h : RepI g ρ ν (H, fi, fr, t)) (hn : 1000 ≤ n) (q1 : ρ n = n) {ns : List Nat} (h2 : ∀ m ∈ ns, ρ m = n) : ∀ m, LlS n ns m → 1000 ≤ m ∧ ρ m = n := fun m z => by
  have hm1 : ρ m = n := by
    rcases z with z | z
    · rw [z]; exact q1
    · exact h2 m z
  refine ⟨?_, hm1⟩
  rcases Nat.lt_or_ge m 1000 with y | y
  · have := (h.2.2.1 m y).2; omega
  · exact y
theorem B_llClr {xs : List (Option Nat)} {mc : Nat} (hn : H n = oLl xs mc) (ht : t < 1000000000) : BMr (d + 1) gk_J3_clear [aR n] (H, fi, fr, t) (fun r S' => r = none ∧ S' = (upH H n (oLl [] (mc + 1)), fi, fr, t + 1)) := by
  rintro g ⟨ρ, ν, hR⟩
  refine GM.wf (fun hW => ?_)
  obtain ⟨q1, ⟨h1, h2, h3, h4⟩, q3, q4⟩ := hR.obj hn rfl rfl
  refine GM.mono (G_llClr h1 (by omega)) (Nat.le_refl _) ?_
  rintro r g' _ ⟨w, rfl, rfl, hK, hL, p3⟩
  refine ⟨_, ⟨fun m => if m < gsz g then ρ m else n, fun m => if m = n then [] else ν m, hR.ll (H' := upH H n (oLl [] (mc + 1))) (t' := t + 1) hW hK hn (fun m => m = n) (fun m hm z => lls_own hR q4 q1 h2 m z) (fun m => rfl) (fun m hm => if_neg hm) (fun m hm => upH_ne hm) (fun m hm => ?_) (fun m _ _ hm _ => hm) (fun m hm => ?_) ⟨_, _, upH_eq, Nat.le_succ _, fun z => absurd z (by omega)⟩ (by show t + 0 ≤ _; omega)⟩, _, rfl, rfl, rfl⟩
  · rw [hm, hn]; exact ⟨oNe rfl, q4, q1⟩
  · subst hm
    rw [upH_eq]
    refine ⟨by dsimp only; rw [if_pos rfl]; exact hL, fun m hm => ?_, by rw [p3, h3]; omega, by omega⟩
    dsimp only at hm
    rw [if_pos rfl] at hm
    cases hm
theorem B_llAll {l2 : Nat} {xs ys : List (Option Nat)} {mc mc2 : Nat} (hn : H n = oLl xs mc) (hn2 : H l2 = oLl ys mc2) (hl : xs.length < 1000000) (hl2 : ys.length < 60000) (ht : t < 1000000000) : BMr (d + 5) gk_J3_addAll [aR n, aR l2] (H, fi, fr, t) (fun r S' => (∃ z : Int, r = vI z) ∧ ∃ mc', mc ≤ mc' ∧ S' = (upH H n (oLl (xs ++ ys) mc'), fi, fr, t + 13 + 16 * ys.length)) := by
  rintro g ⟨ρ, ν, hR⟩
  refine GM.wf (fun hW => ?_)
  obtain ⟨q1, ⟨h1, h2, h3, h4⟩, q3, q4⟩ := hR.obj hn rfl rfl
  obtain ⟨u1, ⟨u2, u3, u4, u5⟩, -, -⟩ := hR.obj hn2 rfl rfl
  have hlen := h1.2.2.2.2.1
  refine GM.mono (G_llAddAll h1 u2 (by omega) (by omega) hl2) (Nat.le_refl _) ?_
  rintro r g' _ ⟨w, rfl, ⟨z, rfl, hz⟩, ms, hK, hL, p1, p2, p3, p4⟩
  obtain ⟨mc', hmc⟩ : ∃ mc' : Nat, gfi g' 102 n = mc' := ⟨(gfi g' 102 n).toNat, by omega⟩
  refine ⟨_, ⟨fun m => if m < gsz g then ρ m else n, fun m => if m = n then ν n ++ ms else ν m, hR.ll (H' := upH H n (oLl (xs ++ ys) mc')) (t' := t + 13 + 16 * ys.length) hW hK hn (fun m => m = n) (fun m hm z => lls_own hR q4 q1 h2 m z) (fun m => rfl) (fun m hm => if_neg hm) (fun m hm => upH_ne hm) (fun m hm => ?_) (fun m _ _ hm _ => hm) (fun m hm => ?_) ⟨_, _, upH_eq, by omega, fun y => ?_⟩ (by show t + (12 + 16 * ys.length) ≤ _; omega)⟩, _, rfl, ⟨z, rfl⟩, mc', by omega, rfl⟩
  · rw [hm, hn]; exact ⟨oNe rfl, q4, q1⟩
  · subst hm
    rw [upH_eq]
    refine ⟨by dsimp only; rw [if_pos rfl]; exact hL, fun m hm => ?_, hmc, by omega⟩
    dsimp only at hm
    rw [if_pos rfl] at hm
    show (if m < gsz g then ρ m else _) = _
    rcases List.mem_append.mp hm with y | y
    · have := (h1.lt hW).2.1 m y
      rw [if_pos this]; exact h2 m y
    · have := p1 m y
      rw [if_neg (by omega)]
  · have e : gfi g' 102 n = gfi g 102 n := by omega
    exact ⟨by rw [if_pos rfl, p4 e, List.append_nil], e⟩
/-- the iterator -/
theorem RepI.it {it l k e lr : Nat} {xs : List (Option Nat)} (h : RepI g ρ ν (H, fi, fr, t)) (hi : H it = oIt l k e lr) (hl : H l = oLl xs e) : ITs g it l (ν l) k (pv (ν l) lr) ∧ k ≤ xs.length ∧ it ≠ l ∧ ρ it = it ∧ 1000 ≤ it ∧ LLs g l (ν l) xs ∧ (∀ m ∈ ν l, ρ m = l) ∧ gfi g 102 l = e ∧ e ≤ t ∧ ρ l = l ∧ 1000 ≤ l ∧ it < gsz g := by
  obtain ⟨q1, ⟨a1, a2, ys, mc, a3, a4, a5, a6⟩, q3, q4⟩ := h.obj hi rfl rfl
  obtain ⟨u1, ⟨u2, u3, u4, u5⟩, u6, u7⟩ := h.obj hl rfl rfl
  have em := (oLl_inj (a3.symm.trans hl)).2
  subst em
  obtain ⟨b1, b2, b3⟩ := a6 rfl
  have b1 : ITs g it l (ν l) k (pv (ν l) lr) := b1
  refine ⟨b1, ?_, fun z => ?_, q1, q4, u2, u3, u4, u5, a4, u7, q3⟩
  · have := u2.2.2.2.2.1; omega
  · rw [z, hl] at hi; exact absurd hi (oNe rfl)
theorem B_itNew {l k mc : Nat} {xs : List (Option Nat)} (hn : H l = oLl xs mc) (hk : k ≤ xs.length) (hl : xs.length < 1000000) : BMr (d + 3) gk_J3_listIterator [aR l, aI k] (H, fi, fr, t) (fun r S' => ∃ it, r = vR (some it) ∧ H it = oNil ∧ 1000 ≤ it ∧ S' = (upH H it (oIt l k mc 0), fi, fr, t + 17)) := by
  rintro g ⟨ρ, ν, hR⟩
  refine GM.wf (fun hW => ?_)
  obtain ⟨q1, ⟨h1, h2, h3, h4⟩, q3, q4⟩ := hR.obj hn rfl rfl
  have hlen := h1.2.2.2.2.1
  refine GM.mono (G_itNew (k := k) h1 (by omega) (by omega)) (Nat.le_refl _) ?_
  rintro r g' _ ⟨w, rfl, it, rfl, p1, p2, hK, hI⟩
  have h0 : H it = oNil := hR.2.1 it (by omega)
  have hne : l ≠ it := fun z => by rw [← z, hn] at h0; exact absurd h0 (oNe rfl)
  have sl := hK.2.2.1 l q3 (fun z => z)
  refine ⟨_, ⟨fun m => if m < gsz g then ρ m else it, ν, RepI.mk (H' := upH H it (oIt l k mc 0)) (t' := t + 17) hR hW hK (fun _ => False) (fun m _ z => z.elim) (fun m hm => if_pos hm) (fun _ _ _ => rfl) (fun m _ hm => upH_ne (by omega)) (fun m z => z.elim) (fun m hm1 hm2 _ => ?_) (fun m hm => ?_) (fun l xs mc z => z.elim) (Nat.le_refl _)⟩, _, rfl, it, rfl, h0, by have := hW.2.2.1; omega, rfl⟩
  · have e : m = it := by omega
    subst e
    rw [upH_eq]
    refine ⟨if_neg (by omega), hI.1, hI.2.1, xs, mc, (upH_ne hne).trans hn, by dsimp only; rw [if_pos q3]; exact q1, Int.le_refl _, fun _ => ⟨hI, by omega, by omega⟩⟩
  · have := hK.1
    exact (upH_ne (by omega)).trans (hR.2.1 m (by omega))
theorem B_itHas {it l k e lr : Nat} {xs : List (Option Nat)} (hi : H it = oIt l k e lr) (hl : H l = oLl xs e) (hx : xs.length < 1000000) : BE (d + 1) gk_J35_hasNext [aR it] (H, fi, fr, t) (vI (if k < xs.length then 1 else 0)) := BE.of (fun g ρ ν hR hW => by
  obtain ⟨b1, b2, b3, b4, b5, b6, -⟩ := hR.it hi hl
  have := b6.2.2.2.2.1
  exact G_itHas b6 b1 (by omega) (by omega))
theorem B_itIdx {it l k e lr : Nat} {xs : List (Option Nat)} (hi : H it = oIt l k e lr) (hl : H l = oLl xs e) (hx : xs.length < 1000000) : BE (d + 1) gk_J35_nextIndex [aR it] (H, fi, fr, t) (vI k) := BE.of (fun g ρ ν hR hW => by
  obtain ⟨b1, b2, b3, b4, b5, b6, -⟩ := hR.it hi hl
  exact G_itIdx b1 (by omega))
theorem B_itNext {it l k e lr : Nat} {xs : List (Option Nat)} (hi : H it = oIt l k e lr) (hl : H l = oLl xs e) (hx : xs.length < 1000000) (hk : k < xs.length) : BMr (d + 2) gk_J35_next [aR it] (H, fi, fr, t) (fun r S' => r = vR (xs.getD k none) ∧ S' = (upH H it (oIt l (k + 1) e (k + 1)), fi, fr, t)) := by
  rintro g ⟨ρ, ν, hR⟩
  refine GM.wf (fun hW => ?_)
  obtain ⟨b1, b2, b3, b4, b5, b6, b7, b8, b9, b10, b11, b12⟩ := hR.it hi hl
  have hlen := b6.2.2.2.2.1
  refine GM.mono (G_itNext b6 b1 (by omega) (by omega)) (Nat.le_refl _) ?_
  rintro r g' _ ⟨w, rfl, rfl, hK, hL, hI, hc⟩
  refine ⟨_, ⟨fun m => if m < gsz g then ρ m else it, ν, hR.one (o' := oIt l (k + 1) e (k + 1)) (t' := t) hW hK hi rfl rfl rfl (fun m _ z => by rw [z]; exact b4) (fun m => rfl) rfl ?_ (Nat.le_refl _)⟩, _, rfl, rfl, rfl⟩
  have hll : l < gsz g := (b6.lt hW).1
  refine ⟨hI.1, hI.2.1, xs, e, (upH_ne (fun z => b3 z.symm)).trans hl, by dsimp only; rw [if_pos hll]; exact b10, Int.le_refl _, fun _ => ⟨?_, by omega, by omega⟩⟩
  have e2 : pv (ν l) (k + 1) = (ν l)[k]? := if_neg (Nat.succ_ne_zero _)
  show ITs g' it l (ν l) (k + 1) (pv (ν l) (k + 1))
  rw [e2]; exact hI
theorem B_itPrev {it l k e lr : Nat} {xs : List (Option Nat)} (hi : H it = oIt l k e lr) (hl : H l = oLl xs e) (hx : xs.length < 1000000) (hk : 0 < k) : BMr (d + 2) gk_J35_previous [aR it] (H, fi, fr, t) (fun r S' => r = vR (xs.getD (k - 1) none) ∧ S' = (upH H it (oIt l (k - 1) e k), fi, fr, t)) := by
  rintro g ⟨ρ, ν, hR⟩
  refine GM.wf (fun hW => ?_)
  obtain ⟨b1, b2, b3, b4, b5, b6, b7, b8, b9, b10, b11, b12⟩ := hR.it hi hl
  have hlen := b6.2.2.2.2.1
  refine GM.mono (G_itPrev b6 b1 (by omega) ⟨hk, by omega⟩) (Nat.le_refl _) ?_
  rintro r g' _ ⟨w, rfl, rfl, hK, hL, hI, hc⟩
  refine ⟨_, ⟨fun m => if m < gsz g then ρ m else it, ν, hR.one (o' := oIt l (k - 1) e k) (t' := t) hW hK hi rfl rfl rfl (fun m _ z => by rw [z]; exact b4) (fun m => rfl) rfl ?_ (Nat.le_refl _)⟩, _, rfl, rfl, rfl⟩
  have hll : l < gsz g := (b6.lt hW).1
  refine ⟨hI.1, hI.2.1, xs, e, (upH_ne (fun z => b3 z.symm)).trans hl, by dsimp only; rw [if_pos hll]; exact b10, Int.le_refl _, fun _ => ⟨?_, by omega, by omega⟩⟩
  have e2 : pv (ν l) k = (ν l)[k - 1]? := if_neg (by omega)
  show ITs g' it l (ν l) (k - 1) (pv (ν l) k)
  rw [e2]; exact hI
end L3
