set_option maxRecDepth 100000
/-! JDK methods at the level of objects: new ones, substring, ArrayList, ArrayDeque, BitSet, Integer -/
section L2
variable {d : Nat} {g : GH} {H : Nat → Obj} {fi : Nat → Nat → Int} {fr : Nat → Nat → Option Nat} {t : Nat} {n : Nat} {ρ : Nat → Nat} {ν : Nat → List Nat}
/-- null, an object, a small Integer -/
def okT (k : Nat) : Bool := (Nat.ble 1 k && Nat.ble k 8) || k == 11
def vOk (H : Nat → Obj) (v : Option Nat) : Prop := ∀ m, v = some m → m < 256 ∨ okT (H m).1 = true
theorem RepI.gokO (h : RepI g ρ ν (H, fi, fr, t)) (hW : GWf g) {v : Option Nat} (hv : vOk H v) : gokO g v = true := by
  cases v with
  | none => rfl
  | some m =>
    refine decide_eq_true ?_
    rcases hv m rfl with h1 | h1
    · have := (hW.1 m (by omega)).1
      rw [this]; unfold kcls; rw [if_pos h1]; decide
    · have key : ∀ o, H m = o → okT o.1 = true → 1 ≤ gcls g m ∧ gcls g m < 100 := by
        intro o ho hk
        by_cases c1 : o.1 = 1
        · obtain ⟨tag, is, xs, a, M⟩ := o
          have c1 : tag = 1 := c1
          subst c1
          rcases Nat.lt_or_ge m 1000 with w | w
          · have e := ho.symm.trans (h.2.2.1 m w).1
            unfold Hk at e
            split at e
            · rename_i z
              rw [(hW.1 m w).1]
              unfold kcls
              rw [if_neg (by omega), if_pos (by omega)]; decide
            · exact absurd e (oNe rfl)
          · have hne : H m ≠ oNil := by rw [ho]; exact oNe rfl
            have hlt : m < gsz g := by
              rcases Nat.lt_or_ge m (gsz g) with w2 | w2
              · exact w2
              · exact absurd (h.2.1 m w2) hne
            have := (h.1 m w hlt hne).2
            rw [show (H, fi, fr, t).1 m = _ from ho] at this
            obtain ⟨b, q, -⟩ := this
            rw [q.1]; decide
        · have h0 : (o.1 == 0) = false := by
            cases hz : (o.1 == 0) with
            | false => rfl
            | true => rw [eq_of_beq hz] at hk; cases hk
          have h11 : (o.1 == 1) = false := by
            cases hz : (o.1 == 1) with
            | false => rfl
            | true => exact absurd (eq_of_beq hz) c1
          obtain ⟨q1, q2, q3, q4⟩ := h.obj ho h0 h11
          obtain ⟨tag, is, xs, a, M⟩ := o
          match tag, q2, hk with
          | 0, _, hk => cases hk
          | 1, _, _ => exact absurd rfl c1
          | 2, q, _ => obtain ⟨b, q, -⟩ := q; rw [q.1.1]; decide
          | 3, q, _ => obtain ⟨b, q, -⟩ := q; rw [q.1.1]; decide
          | 4, q, _ => rw [q.1.1.1]; decide
          | 5, q, _ =>
            match is, q with
            | [], q => exact q.elim
            | [_], q => exact q.elim
            | [_, _], q => exact q.elim
            | _ :: _ :: _ :: _ :: _, q => exact q.elim
            | [_, _, _], q => rw [q.1.1]; decide
          | 6, q, _ => obtain ⟨b, _, q, -⟩ := q; rw [q.1.1]; decide
          | 7, q, _ => obtain ⟨b, q, -⟩ := q; rw [q.at.1]; decide
          | 8, q, _ => obtain ⟨b, _, q, -⟩ := q; rw [q.1.1]; decide
          | 9, _, hk => cases hk
          | 10, _, hk => cases hk
          | 11, q, _ => rw [q.1.1]; exact ⟨q.2.1, by have := q.2.2; omega⟩
          | k + 12, _, hk =>
            exfalso
            unfold okT at hk
            simp at hk
      exact key _ rfl h1
/-- an ArrayList that has changed -/
def BAl9 (H : Nat → Obj) (fi : Nat → Nat → Int) (fr : Nat → Nat → Option Nat) (t n cap : Nat) (xs' : List (Option Nat)) (S' : BS) : Prop := ∃ cap', S' = (upH H n (oAl xs' cap'), fi, fr, t + 1 + 6 * (cap' - cap)) ∧ cap ≤ cap' ∧ (cap' = cap ∨ cap' ≤ 2 * xs'.length + 10)
theorem B_alSize {xs : List (Option Nat)} {cap : Nat} (hn : H n = oAl xs cap) : BE (d + 1) gk_J6_size [aR n] (H, fi, fr, t) (vI xs.length) := BE.of (fun g ρ ν hR hW => by
  obtain ⟨q1, ⟨a, h1, h2⟩, q3, q4⟩ := hR.obj hn rfl rfl
  exact G_alSize h1)
theorem B_alEmp {xs : List (Option Nat)} {cap : Nat} (hn : H n = oAl xs cap) : BE (d + 1) gk_J6_isEmpty [aR n] (H, fi, fr, t) (vI (if xs = [] then 1 else 0)) := BE.of (fun g ρ ν hR hW => by
  obtain ⟨q1, ⟨a, h1, h2⟩, q3, q4⟩ := hR.obj hn rfl rfl
  exact G_alEmp h1)
theorem B_alGet {xs : List (Option Nat)} {cap : Nat} (hn : H n = oAl xs cap) {i : Int} (hi : 0 ≤ i ∧ i < xs.length) : BE (d + 3) gk_J6_get [aR n, aI i] (H, fi, fr, t) (vR (xs.getD i.toNat none)) := BE.of (fun g ρ ν hR hW => by
  obtain ⟨q1, ⟨a, h1, h2⟩, q3, q4⟩ := hR.obj hn rfl rfl
  exact G_alGet h1 hi)
theorem als_own {a : Nat} (q1 : ρ n = n) (h2 : a = 330 ∨ ρ a = n) : ∀ m, AlS n a m → ρ m = n := fun m z => by
  rcases z with z | ⟨z, z2⟩
  · rw [z]; exact q1
  · rcases h2 with y | y
    · omega
    · rw [z]; exact y
theorem own3 {a a' : Nat} (hW : GWf g) (h : a' = a ∨ gsz g ≤ a') (ha : a = 330 ∨ ρ a = n) : a' = 330 ∨ (if a' < gsz g then ρ a' else n) = n := by
  rcases h with h | h
  · rcases ha with y | y
    · exact Or.inl (h.trans y)
    · exact Or.inr (own9 (Or.inl h) y)
  · exact Or.inr (if_neg (by omega))
theorem B_alAdd {xs : List (Option Nat)} {cap : Nat} (hn : H n = oAl xs cap) {v : Option Nat} (hv : vOk H v) (hl : xs.length < 40000) (ht : t < 1000000000) : BMr (d + 6) gk_J6_add [aR n, aQ v] (H, fi, fr, t) (fun r S' => r = vI 1 ∧ BAl9 H fi fr t n cap (xs ++ [v]) S') := by
  rintro g ⟨ρ, ν, hR⟩
  refine GM.wf (fun hW => ?_)
  obtain ⟨q1, ⟨a, h1, h2, h3⟩, q3, q4⟩ := hR.obj hn rfl rfl
  refine GM.mono (G_alAdd h1 (hR.gokO hW hv) hl (by omega)) (Nat.le_refl _) ?_
  rintro r g' _ ⟨w, rfl, rfl, a', cap', hK, hA, p1, p2, p3, p4, p5⟩
  exact ⟨_, ⟨fun m => if m < gsz g then ρ m else n, ν, hR.one (o' := oAl (xs ++ [v]) cap') (t' := t + 1 + 6 * (cap' - cap)) hW hK hn rfl rfl rfl (fun m _ z => als_own q1 h2 m z) (fun m => rfl) rfl ⟨a', hA, own3 hW p1 h2, by rw [p5]; omega⟩ (by show t + 6 * (cap' - cap) ≤ _; omega)⟩, _, rfl, rfl, cap', rfl, p3, p4⟩
theorem B_alSet {xs : List (Option Nat)} {cap : Nat} (hn : H n = oAl xs cap) {i : Int} (hi : 0 ≤ i ∧ i < xs.length) {v : Option Nat} (hv : vOk H v) : BMr (d + 3) gk_J6_set [aR n, aI i, aQ v] (H, fi, fr, t) (fun r S' => r = vR (xs.getD i.toNat none) ∧ S' = (upH H n (oAl (xs.set i.toNat v) cap), fi, fr, t)) := by
  rintro g ⟨ρ, ν, hR⟩
  refine GM.wf (fun hW => ?_)
  obtain ⟨q1, ⟨a, h1, h2, h3⟩, q3, q4⟩ := hR.obj hn rfl rfl
  have hA := h1.arr (by omega)
  refine GM.mono (G_alSet h1 hi (hR.gokO hW hv)) (Nat.le_refl _) ?_
  rintro r g' _ ⟨w, rfl, rfl, rfl, hA'⟩
  exact ⟨_, ⟨fun m => if m < gsz g then ρ m else n, ν, hR.one (c := 0) (o' := oAl (xs.set i.toNat v) cap) (Sx := AlS n a) hW (Kp.ar (Or.inr ⟨rfl, hA.2⟩)) hn rfl rfl rfl (fun m _ z => als_own q1 h2 m z) (fun m => rfl) rfl ⟨a, hA', own3 hW (Or.inl rfl) h2, h3⟩ (Nat.le_refl _)⟩, _, rfl, rfl, rfl⟩
theorem B_alClr {xs : List (Option Nat)} {cap : Nat} (hn : H n = oAl xs cap) (ht : t < 1000000000) : BMr (d + 1) gk_J6_clear [aR n] (H, fi, fr, t) (fun r S' => r = none ∧ S' = (upH H n (oAl [] cap), fi, fr, t + 1)) := by
  rintro g ⟨ρ, ν, hR⟩
  refine GM.wf (fun hW => ?_)
  obtain ⟨q1, ⟨a, h1, h2, h3⟩, q3, q4⟩ := hR.obj hn rfl rfl
  refine GM.mono (G_alClr h1 (by omega)) (Nat.le_refl _) ?_
  rintro r g' _ ⟨w, rfl, rfl, hK, hA', p5⟩
  exact ⟨_, ⟨fun m => if m < gsz g then ρ m else n, ν, hR.one (o' := oAl [] cap) (t' := t + 1) hW hK hn rfl rfl rfl (fun m _ z => als_own q1 h2 m z) (fun m => rfl) rfl ⟨a, hA', own3 hW (Or.inl rfl) h2, by rw [p5]; omega⟩ (by show t + 0 ≤ _; omega)⟩, _, rfl, rfl, rfl⟩
theorem B_alRem {xs : List (Option Nat)} {cap : Nat} (hn : H n = oAl xs cap) (hx : 0 < xs.length) (ht : t < 1000000000) : BMr (d + 3) gk_J6_remove [aR n, aI (xs.length - 1)] (H, fi, fr, t) (fun r S' => (∃ q, r = vR q) ∧ S' = (upH H n (oAl (xs.take (xs.length - 1)) cap), fi, fr, t + 1)) := by
  rintro g ⟨ρ, ν, hR⟩
  refine GM.wf (fun hW => ?_)
  obtain ⟨q1, ⟨a, h1, h2, h3⟩, q3, q4⟩ := hR.obj hn rfl rfl
  refine GM.mono (G_alRem h1 hx (by omega)) (Nat.le_refl _) ?_
  rintro r g' _ ⟨w, rfl, ⟨q, rfl⟩, hK, hA', p5⟩
  exact ⟨_, ⟨fun m => if m < gsz g then ρ m else n, ν, hR.one (o' := oAl (xs.take (xs.length - 1)) cap) (t' := t + 1) hW hK hn rfl rfl rfl (fun m _ z => als_own q1 h2 m z) (fun m => rfl) rfl ⟨a, hA', own3 hW (Or.inl rfl) h2, by rw [p5]; omega⟩ (by show t + 0 ≤ _; omega)⟩, _, rfl, ⟨q, rfl⟩, rfl⟩
/-- constructors: the cell was new -/
theorem B_alNew (hn : H n = oRaw 16) : BMr (d + 3) gk_J6_init [aR n] (H, fi, fr, t) (fun r S' => r = none ∧ S' = (upH H n (oAl [] 0), fi, fr, t)) := by
  rintro g ⟨ρ, ν, hR⟩
  refine GM.wf (fun hW => ?_)
  obtain ⟨q1, ⟨h1, h2, h3⟩, q3, q4⟩ := hR.obj hn rfl rfl
  refine GM.mono (G_alNew h1 (h3 104 (by decide)).1) (Nat.le_refl _) ?_
  rintro r g' _ ⟨w, rfl, rfl, hK, hA', p5⟩
  exact ⟨_, ⟨fun m => if m < gsz g then ρ m else n, ν, hR.one (o' := oAl [] 0) (t' := t) hW hK hn rfl rfl rfl (fun m _ z => by rw [z]; exact q1) (fun m => rfl) rfl ⟨330, hA', Or.inl rfl, by rw [p5]; omega⟩ (Nat.le_refl _)⟩, _, rfl, rfl, rfl⟩
theorem B_sbNew (hn : H n = oRaw 14) : BMr (d + 2) gk_J9_init [aR n] (H, fi, fr, t) (fun r S' => r = none ∧ S' = (upH H n (oSb [] 16), fi, fr, t + 28)) := by
  rintro g ⟨ρ, ν, hR⟩
  refine GM.wf (fun hW => ?_)
  obtain ⟨q1, ⟨h1, h2, h3⟩, q3, q4⟩ := hR.obj hn rfl rfl
  refine GM.mono (G_sbNew h1 (h3 98 (by decide)).1) (Nat.le_refl _) ?_
  rintro r g' _ ⟨w, rfl, rfl, a, hK, p1, p2, hB⟩
  exact ⟨_, ⟨fun m => if m < gsz g then ρ m else n, ν, hR.one (o' := oSb [] 16) (t' := t + 28) hW hK hn rfl rfl rfl (fun m _ z => by rw [z]; exact q1) (fun m => rfl) rfl ⟨a, hB, if_neg (by omega)⟩ (Nat.le_refl _)⟩, _, rfl, rfl, rfl⟩
theorem B_adNew (hn : H n = oRaw 15) : BMr (d + 2) gk_J7_init [aR n] (H, fi, fr, t) (fun r S' => r = none ∧ S' = (upH H n (oAd [] 17), fi, fr, t + 29)) := by
  rintro g ⟨ρ, ν, hR⟩
  refine GM.wf (fun hW => ?_)
  obtain ⟨q1, ⟨h1, h2, h3⟩, q3, q4⟩ := hR.obj hn rfl rfl
  refine GM.mono (G_adNew h1 (h3 100 (by decide)).1 (h3 101 (by decide)).1) (Nat.le_refl _) ?_
  rintro r g' _ ⟨w, rfl, rfl, a, hK, p1, p2, hB⟩
  exact ⟨_, ⟨fun m => if m < gsz g then ρ m else n, ν, hR.one (o' := oAd [] 17) (t' := t + 29) hW hK hn rfl rfl rfl (fun m _ z => by rw [z]; exact q1) (fun m => rfl) rfl ⟨a, 0, hB, if_neg (by omega)⟩ (Nat.le_refl _)⟩, _, rfl, rfl, rfl⟩
theorem B_bsNew (hn : H n = oRaw 17) : BMr (d + 3) gk_J38_init [aR n] (H, fi, fr, t) (fun r S' => r = none ∧ S' = (upH H n (oBs 0), fi, fr, t + 13)) := by
  rintro g ⟨ρ, ν, hR⟩
  refine GM.wf (fun hW => ?_)
  obtain ⟨q1, ⟨h1, h2, h3⟩, q3, q4⟩ := hR.obj hn rfl rfl
  refine GM.mono (G_bsNew h1) (Nat.le_refl _) ?_
  rintro r g' _ ⟨w, rfl, rfl, a, hK, p1, p2, hB⟩
  exact ⟨_, ⟨fun m => if m < gsz g then ρ m else n, ν, hR.one (o' := oBs 0) (t' := t + 13) hW hK hn rfl rfl rfl (fun m _ z => by rw [z]; exact q1) (fun m => rfl) rfl ⟨a, 0, hB, if_neg (by omega)⟩ (Nat.le_refl _)⟩, _, rfl, rfl, rfl⟩
theorem B_tmNew (hn : H n = oRaw 21) : BMr (d + 2) gk_J5_init [aR n] (H, fi, fr, t) (fun r S' => r = none ∧ S' = (upH H n (oTm (fun _ => none)), fi, fr, t)) := by
  rintro g ⟨ρ, ν, hR⟩
  refine GM.wf (fun hW => ?_)
  obtain ⟨q1, ⟨h1, h2, h3⟩, q3, q4⟩ := hR.obj hn rfl rfl
  refine GM.mono (G_tmNew h1 (h3 122 (by decide)).2) (Nat.le_refl _) ?_
  rintro r g' _ ⟨w, rfl, rfl, hK, hA', p5⟩
  exact ⟨_, ⟨fun m => if m < gsz g then ρ m else n, ν, hR.one (o' := oTm (fun _ => none)) (t' := t) hW hK hn rfl rfl rfl (fun m _ z => by rw [z]; exact q1) (fun m => rfl) rfl ⟨fun _ => 0, hA', fun k hk => absurd rfl hk, by rw [p5]; omega⟩ (Nat.le_refl _)⟩, _, rfl, rfl, rfl⟩
/-- ArrayDeque -/
theorem B_adEmp {xs : List (Option Nat)} {cap : Nat} (hn : H n = oAd xs cap) : BE (d + 1) gk_J7_isEmpty [aR n] (H, fi, fr, t) (vI (if xs = [] then 1 else 0)) := BE.of (fun g ρ ν hR hW => by
  obtain ⟨q1, ⟨a, h, h1, h2⟩, q3, q4⟩ := hR.obj hn rfl rfl
  exact G_adEmp h1)
theorem B_adSize {xs : List (Option Nat)} {cap : Nat} (hn : H n = oAd xs cap) : BE (d + 2) gk_J7_size [aR n] (H, fi, fr, t) (vI xs.length) := BE.of (fun g ρ ν hR hW => by
  obtain ⟨q1, ⟨a, h, h1, h2⟩, q3, q4⟩ := hR.obj hn rfl rfl
  exact G_adSize h1)
theorem B_adPeek {xs : List (Option Nat)} {cap : Nat} (hn : H n = oAd xs cap) (hx : 0 < xs.length) : BE (d + 2) gk_J7_peekLast [aR n] (H, fi, fr, t) (vR (xs.getD (xs.length - 1) none)) := BE.of (fun g ρ ν hR hW => by
  obtain ⟨q1, ⟨a, h, h1, h2⟩, q3, q4⟩ := hR.obj hn rfl rfl
  exact G_adPeek h1 hx)
theorem ads_own {a : Nat} (q1 : ρ n = n) (h2 : ρ a = n) : ∀ m, AdS n a m → ρ m = n := fun m z => by
  rcases z with z | z
  · rw [z]; exact q1
  · rw [z]; exact h2
theorem B_adRL {xs : List (Option Nat)} {cap : Nat} (hn : H n = oAd xs cap) (hx : 0 < xs.length) : BMr (d + 3) gk_J7_removeLast [aR n] (H, fi, fr, t) (fun r S' => r = vR (xs.getD (xs.length - 1) none) ∧ S' = (upH H n (oAd (xs.take (xs.length - 1)) cap), fi, fr, t)) := by
  rintro g ⟨ρ, ν, hR⟩
  refine GM.wf (fun hW => ?_)
  obtain ⟨q1, ⟨a, h, h1, h2⟩, q3, q4⟩ := hR.obj hn rfl rfl
  refine GM.mono (G_adRL h1 hx) (Nat.le_refl _) ?_
  rintro r g' _ ⟨w, rfl, rfl, hK, hA⟩
  exact ⟨_, ⟨fun m => if m < gsz g then ρ m else n, ν, hR.one (o' := oAd (xs.take (xs.length - 1)) cap) (t' := t) hW hK hn rfl rfl rfl (fun m _ z => ads_own q1 h2 m z) (fun m => rfl) rfl ⟨a, h, hA, own9 (Or.inl rfl) h2⟩ (Nat.le_refl _)⟩, _, rfl, rfl, rfl⟩
theorem B_adRF {xs : List (Option Nat)} {cap : Nat} (hn : H n = oAd xs cap) (hx : 0 < xs.length) : BMr (d + 3) gk_J7_removeFirst [aR n] (H, fi, fr, t) (fun r S' => r = vR (xs.getD 0 none) ∧ S' = (upH H n (oAd (xs.drop 1) cap), fi, fr, t)) := by
  rintro g ⟨ρ, ν, hR⟩
  refine GM.wf (fun hW => ?_)
  obtain ⟨q1, ⟨a, h, h1, h2⟩, q3, q4⟩ := hR.obj hn rfl rfl
  refine GM.mono (G_adRF h1 hx) (Nat.le_refl _) ?_
  rintro r g' _ ⟨w, rfl, rfl, hK, h', hA⟩
  exact ⟨_, ⟨fun m => if m < gsz g then ρ m else n, ν, hR.one (o' := oAd (xs.drop 1) cap) (t' := t) hW hK hn rfl rfl rfl (fun m _ z => ads_own q1 h2 m z) (fun m => rfl) rfl ⟨a, h', hA, own9 (Or.inl rfl) h2⟩ (Nat.le_refl _)⟩, _, rfl, rfl, rfl⟩
theorem B_adAdd {xs : List (Option Nat)} {cap : Nat} (hn : H n = oAd xs cap) {v : Nat} (hv : vOk H (some v)) (hc : cap < 43000) : BMr (d + 4) gk_J7_addLast [aR n, aR v] (H, fi, fr, t) (fun r S' => r = none ∧ ∃ cap', S' = (upH H n (oAd (xs ++ [some v]) cap'), fi, fr, t + 6 * (cap' - cap)) ∧ cap ≤ cap' ∧ (cap' = cap ∨ (cap' ≤ 2 * (xs.length + 1) + 10 ∧ 2 * cap' ≤ 3 * (xs.length + 1) + 70))) := by
  rintro g ⟨ρ, ν, hR⟩
  refine GM.wf (fun hW => ?_)
  obtain ⟨q1, ⟨a, h, h1, h2⟩, q3, q4⟩ := hR.obj hn rfl rfl
  refine GM.mono (G_adAdd h1 (hR.gokO hW hv) hc) (Nat.le_refl _) ?_
  rintro r g' _ ⟨w, rfl, rfl, a', cap', h', hK, hA, p1, p2, p3, p4⟩
  rw [List.length_append] at p4
  exact ⟨_, ⟨fun m => if m < gsz g then ρ m else n, ν, hR.one (o' := oAd (xs ++ [some v]) cap') (t' := t + 6 * (cap' - cap)) hW hK hn rfl rfl rfl (fun m _ z => ads_own q1 h2 m z) (fun m => rfl) rfl ⟨a', h', hA, own9 p1 h2⟩ (Nat.le_refl _)⟩, _, rfl, rfl, cap', rfl, p3, p4⟩
/-- BitSet -/
theorem B_bsSet {w : Nat} (hn : H n = oBs w) (hw : w < 2 ^ 64) {k : Nat} (hk : k < 64) : BMr (d + 3) gk_J38_set [aR n, aI k] (H, fi, fr, t) (fun r S' => r = none ∧ S' = (upH H n (oBs (w ||| 2 ^ k)), fi, fr, t)) := by
  rintro g ⟨ρ, ν, hR⟩
  refine GM.wf (fun hW => ?_)
  obtain ⟨q1, ⟨a, u, h1, h2⟩, q3, q4⟩ := hR.obj hn rfl rfl
  refine GM.mono (G_bsSet h1 hk) (Nat.le_refl _) ?_
  rintro r g' _ ⟨v, rfl, rfl, hK, hB⟩
  have e : BitVec.ofNat 64 w ||| BitVec.twoPow 64 k = BitVec.ofNat 64 (w ||| 2 ^ k) := by
    apply BitVec.eq_of_getLsbD_eq
    intro j hj
    rw [BitVec.getLsbD_or, BitVec.getLsbD_ofNat, BitVec.getLsbD_twoPow, BitVec.getLsbD_ofNat, Nat.testBit_or, Nat.testBit_two_pow, decide_eq_true hj, decide_eq_true hk]
    simp
  rw [e] at hB
  exact ⟨_, ⟨fun m => if m < gsz g then ρ m else n, ν, hR.one (o' := oBs (w ||| 2 ^ k)) (t' := t) hW hK hn rfl rfl rfl (fun m _ z => ads_own q1 h2 m z) (fun m => rfl) rfl ⟨a, 1, hB, own9 (Or.inl rfl) h2⟩ (Nat.le_refl _)⟩, _, rfl, rfl, rfl⟩
theorem B_bsNext {w : Nat} (hn : H n = oBs w) (hw : w < 2 ^ 64) {k : Nat} (hk : k < 64) {r : Int} (hr : (r = -1 ∧ ∀ j, k ≤ j → w.testBit j = false) ∨ ∃ t : Nat, r = t ∧ k ≤ t ∧ t < 64 ∧ w.testBit t = true ∧ ∀ j, k ≤ j → j < t → w.testBit j = false) : BE (d + 3) gk_J38_nextSetBit [aR n, aI k] (H, fi, fr, t) (vI r) := BE.of (fun g ρ ν hR hW => by
  obtain ⟨q1, ⟨a, u, h1, h2⟩, q3, q4⟩ := hR.obj hn rfl rfl
  refine G_bsNext h1 hk ?_
  rcases hr with ⟨e, z⟩ | ⟨t, e, z1, z2, z3, z4⟩
  · exact Or.inl ⟨e, fun j hj => by rw [BitVec.getLsbD_ofNat, z j hj, Bool.and_false]⟩
  · exact Or.inr ⟨t, e, z1, z2, by rw [BitVec.getLsbD_ofNat, z3, decide_eq_true z2]; rfl, fun j hj hj2 => by rw [BitVec.getLsbD_ofNat, z4 j hj hj2, Bool.and_false]⟩)
/-- Integer -/
theorem B_intOf {i : Int} (h : 0 ≤ i ∧ i < 128) : BE (d + 1) gk_J24_valueOf [aI i] (H, fi, fr, t) (vR (some (i + 128).toNat)) := BE.of (fun g ρ ν hR hW => G_intOf h)
theorem B_intV {i : Int} (h : 0 ≤ i ∧ i < 128) : BE (d + 1) gk_J24_intValue [aR (i + 128).toNat] (H, fi, fr, t) (vI i) := BE.of (fun g ρ ν hR hW => G_intV (key_is hW h))
/-- substring -/
theorem B_subs {s : List Int} (hn : H n = oStr s) {b e : Int} (hb : 0 ≤ b ∧ b ≤ e ∧ e ≤ s.length) : BMr (d + 5) gk_J10_substring_2 [aR n, aI b, aI e] (H, fi, fr, t) (fun r S' => (∃ q, r = vR (some q) ∧ H q = oStr (sub9 s b e) ∧ S' = (H, fi, fr, t) ∧ (q = n ∨ q = 260)) ∨ BSn H fi fr t (sub9 s b e) (28 + (e - b).toNat) r S') := by
  rintro g ⟨ρ, ν, hR⟩
  refine GM.wf (fun hW => ?_)
  obtain ⟨a, h1, -⟩ := hR.str hW hn
  refine GM.mono (G_subs h1 hb) (Nat.le_refl _) ?_
  rintro r g' _ ⟨w, rfl, hQ⟩
  rcases hQ with ⟨rfl, rfl, rfl, rfl⟩ | ⟨rfl, rfl, rfl⟩ | hQ
  · exact ⟨_, ⟨ρ, ν, hR⟩, _, rfl, Or.inl ⟨n, rfl, by rw [sub9_all]; exact hn, rfl, Or.inl rfl⟩⟩
  · refine ⟨_, ⟨ρ, ν, hR⟩, _, rfl, Or.inl ⟨260, rfl, ?_, rfl, Or.inr rfl⟩⟩
    have e0 : sub9 s b b = [] := List.length_eq_zero_iff.mp (by rw [sub9_len hb]; omega)
    rw [e0]
    exact (hR.2.2.1 260 (by decide)).1.trans rfl
  · obtain ⟨q, rfl, q1, q2, q3⟩ := hR.newS hW hQ
    exact ⟨_, q3, _, rfl, Or.inr ⟨q, rfl, q1, q2, rfl⟩⟩
theorem B_subs1 {s : List Int} (hn : H n = oStr s) {b : Int} (hb : 0 ≤ b ∧ b ≤ s.length) : BMr (d + 6) gk_J10_substring [aR n, aI b] (H, fi, fr, t) (fun r S' => (∃ q, r = vR (some q) ∧ H q = oStr (sub9 s b s.length) ∧ S' = (H, fi, fr, t) ∧ (q = n ∨ q = 260)) ∨ BSn H fi fr t (sub9 s b s.length) (28 + (s.length - b).toNat) r S') := by
  rintro g ⟨ρ, ν, hR⟩
  refine GM.wf (fun hW => ?_)
  obtain ⟨a, h1, -⟩ := hR.str hW hn
  refine GM.mono (G_subs1 h1 hb) (Nat.le_refl _) ?_
  rintro r g' _ ⟨w, rfl, hQ⟩
  rcases hQ with ⟨rfl, rfl, rfl⟩ | ⟨rfl, rfl, rfl⟩ | hQ
  · exact ⟨_, ⟨ρ, ν, hR⟩, _, rfl, Or.inl ⟨n, rfl, by rw [sub9_all]; exact hn, rfl, Or.inl rfl⟩⟩
  · refine ⟨_, ⟨ρ, ν, hR⟩, _, rfl, Or.inl ⟨260, rfl, ?_, rfl, Or.inr rfl⟩⟩
    have e0 : sub9 s s.length s.length = [] := List.length_eq_zero_iff.mp (by rw [sub9_len ⟨hb.1, hb.2, Int.le_refl _⟩]; omega)
    rw [e0]
    exact (hR.2.2.1 260 (by decide)).1.trans rfl
  · obtain ⟨q, rfl, q1, q2, q3⟩ := hR.newS hW hQ
    exact ⟨_, q3, _, rfl, Or.inr ⟨q, rfl, q1, q2, rfl⟩⟩
end L2
