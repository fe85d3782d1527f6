-- B
set_option maxRecDepth 100000
/-! rules of the walk at the level of objects: casts, the same reference, the library's exceptions -/
theorem ObjIs.tle {g : GH} {ρ : Nat → Nat} {ν : Nat → List Nat} {H : Nat → Obj} {t t' n : Nat} {o : Obj} (q : ObjIs g ρ ν H t n o) (ht : t ≤ t') : ObjIs g ρ ν H t' n o := by
  obtain ⟨tag, is, xs, a, M⟩ := o
  match tag, q with
  | 0, q => exact q.elim
  | 1, q => exact q
  | 2, q => exact q
  | 3, q =>
    obtain ⟨b, h1, h2, h3⟩ := q
    exact ⟨b, h1, h2, by omega⟩
  | 4, q => exact ⟨q.1, q.2.1, q.2.2.1, Nat.le_trans q.2.2.2 ht⟩
  | 5, q =>
    match is, q with
    | [], q => exact q.elim
    | [_], q => exact q.elim
    | [_, _], q => exact q.elim
    | _ :: _ :: _ :: _ :: _, q => exact q.elim
    | [k, e, lr], q => exact q
  | 6, q => exact q
  | 7, q =>
    obtain ⟨N, h1, h2, h3⟩ := q
    exact ⟨N, h1, h2, by omega⟩
  | 8, q => exact q
  | 9, q => exact q
  | 10, q => exact q
  | 11, q => exact q
  | 12, q => exact q
  | k + 13, q => exact q.elim
section BX
variable {d i a n : Nat} {b : Int} {M : GMeth} {ls : GL} {st : List GV} {H : Nat → Obj} {fi : Nat → Nat → Int} {fr : Nat → Nat → Option Nat} {t : Nat} {S : BS} {Q : GO → BS → Prop} {g : GH} {ρ : Nat → Nat} {ν : Nat → List Nat}
theorem RepI.xc (hR : RepI g ρ ν (H, fi, fr, t)) : RepI (gxc g) ρ ν (H, fi, fr, t + 18) := by
  obtain ⟨r1, r2, r3, r4, r5⟩ := hR
  have hs : gsz (gxc g) = gsz g + 1 := rfl
  refine ⟨fun m h1 h2 h3 => ?_, fun m h1 => r2 m (by omega), r3, fun F m hF => r4 F m hF, ?_⟩
  · have hlt : m < gsz g := by
      rcases Nat.lt_or_ge m (gsz g) with w | w
      · exact w
      · exact absurd (r2 m w) h3
    obtain ⟨e, o⟩ := r1 m h1 hlt h3
    exact ⟨e, (o.sj (t := t) (g' := gxc g) ⟨rfl, rfl, rfl, rfl, fun _ _ _ => ⟨rfl, rfl⟩⟩ (fun _ _ _ z => z)).tle (Nat.le_add_right _ _)⟩
  · show 12 * (gnc g + 1) + (gns g + 6) ≤ t + 18
    have r5 : 12 * gnc g + gns g ≤ t := r5
    omega
theorem BW.thx (hC : M.2.2.1[i]? = some (61, a, b)) (hh : ghnd M.2.2.2 i = none) (hab : (a = 200 ∧ b = 70) ∨ (a = 201 ∧ b = 73) ∨ (a = 202 ∧ b = 67)) (hs : (st.map gcat).sum ≤ 8) (h : Q (.inr (a, none)) (H, fi, fr, t + 18)) : BW d M i ls st (H, fi, fr, t) Q := by
  rintro g ⟨ρ, ν, hR⟩
  exact GW.thx hC hh hab hs ⟨_, ⟨ρ, ν, hR.xc⟩, h⟩
theorem BW.cast {r : Option Nat} (hC : M.2.2.1[i]? = some (50, a, b)) (h : ∀ n, r = some n → (gcasts.getD a []).contains (ocls (H n)) = true ∧ ((H n).1 == 0) = false ∧ (ocls (H n) < 100 ∨ 1000 ≤ n)) (k : BW d M (i + 1) ls (.inr (.inr r) :: st) (H, fi, fr, t) Q) : BW d M i ls (.inr (.inr r) :: st) (H, fi, fr, t) Q := by
  rintro g ⟨ρ, ν, hR⟩
  refine GW.wf (fun hW => GW.cast hC ?_ (k g ⟨ρ, ν, hR⟩))
  cases r with
  | none => exact Or.inl rfl
  | some n =>
    obtain ⟨h1, h2, h3⟩ := h n rfl
    have e : gcls g ((some n).getD 0) = ocls (H n) := (hR.cls hW (n := n) rfl h2).1
    right
    rw [e]
    exact ⟨h1, h3⟩
theorem RepI.can2 (hR : RepI g ρ ν (H, fi, fr, t)) (hW : GWf g) {r q : Option Nat} (h1 : ∀ n, r = some n → ((H n).1 == 0) = false) (h2 : ∀ n, q = some n → ((H n).1 == 0) = false) (h3 : ∀ n m, r = some n → q = some m → 1000 ≤ n ∨ 1000 ≤ m) : gcan2 g r q = true := by
  have ok : ∀ r : Option Nat, (∀ n, r = some n → ((H n).1 == 0) = false) → gok g r = true := fun r hr => by
    cases r with
    | none => rfl
    | some n =>
      have := hR.cls hW (n := n) rfl (hr n rfl)
      exact gok_c (by rw [this.1]; exact this.2)
  unfold gcan2
  rw [ok r h1, ok q h2]
  cases r with
  | none => simp
  | some n =>
    cases q with
    | none => simp
    | some m => simp [h3 n m rfl rfl]
theorem BW.aeq {r q : Option Nat} (hC : M.2.2.1[i]? = some (32, a, b)) (h1 : ∀ n, r = some n → ((H n).1 == 0) = false) (h2 : ∀ n, q = some n → ((H n).1 == 0) = false) (h3 : ∀ n m, r = some n → q = some m → 1000 ≤ n ∨ 1000 ≤ m) (kt : r = q → BW d M a ls st (H, fi, fr, t) Q) (kf : r ≠ q → BW d M (i + 1) ls st (H, fi, fr, t) Q) : BW d M i ls (.inr (.inr q) :: .inr (.inr r) :: st) (H, fi, fr, t) Q := by
  rintro g ⟨ρ, ν, hR⟩
  exact GW.wf (fun hW => GW.aeq hC (hR.can2 hW h1 h2 h3) (fun z => kt z g ⟨ρ, ν, hR⟩) (fun z => kf z g ⟨ρ, ν, hR⟩))
theorem BW.ane {r q : Option Nat} (hC : M.2.2.1[i]? = some (33, a, b)) (h1 : ∀ n, r = some n → ((H n).1 == 0) = false) (h2 : ∀ n, q = some n → ((H n).1 == 0) = false) (h3 : ∀ n m, r = some n → q = some m → 1000 ≤ n ∨ 1000 ≤ m) (kt : r ≠ q → BW d M a ls st (H, fi, fr, t) Q) (kf : r = q → BW d M (i + 1) ls st (H, fi, fr, t) Q) : BW d M i ls (.inr (.inr q) :: .inr (.inr r) :: st) (H, fi, fr, t) Q := by
  rintro g ⟨ρ, ν, hR⟩
  exact GW.wf (fun hW => GW.ane hC (hR.can2 hW h1 h2 h3) (fun z => kt z g ⟨ρ, ν, hR⟩) (fun z => kf z g ⟨ρ, ν, hR⟩))
end BX
