set_option maxRecDepth 100000
/-! rules of the walk at the level of objects: new cells, arrays, calls, throws -/
section BC
variable {d i a n : Nat} {b : Int} {M : GMeth} {ls : GL} {st : List GV} {H : Nat → Obj} {fi : Nat → Nat → Int} {fr : Nat → Nat → Option Nat} {t : Nat} {S : BS} {Q : GO → BS → Prop} {g : GH} {ρ : Nat → Nat} {ν : Nat → List Nat}
theorem RepI.new {c L s : Nat} {o : Obj} (hR : RepI g ρ ν (H, fi, fr, t)) (hW : GWf g) (hO : ∀ ρ' H', ObjIs (gnew g c L s) ρ' ν H' (t + (12 + s)) (gsz g) o) : RepI (gnew g c L s) (fun m => if m < gsz g then ρ m else gsz g) ν (upH H (gsz g) o, fi, fr, t + (12 + s)) := by
  refine RepI.mk hR hW (Kp.new (S := fun _ => False) hW) (fun _ => False) (fun m _ z => z.elim) (fun m hm => if_pos hm) (fun _ _ _ => rfl) (fun m _ hm => upH_ne (by omega)) (fun m z => z.elim) (fun m hm1 hm2 hne => ?_) (fun m hm => ?_) (fun l xs mc z => z.elim) (Nat.le_refl _)
  · by_cases z : m = gsz g
    · rw [z, upH_eq]
      exact ⟨if_neg (by omega), hO _ _⟩
    · exact absurd ((upH_ne z).trans (hR.2.1 m hm1)) hne
  · have h1 : gsz (gnew g c L s) = gsz g + 1 := rfl
    exact (upH_ne (by omega)).trans (hR.2.1 m (by omega))
/-- what is known of a cell that is not there yet -/
def Free (H : Nat → Obj) (fi : Nat → Nat → Int) (fr : Nat → Nat → Option Nat) (q : Nat) : Prop := 1000 ≤ q ∧ H q = oNil ∧ ∀ F, F < 91 → fi F q = 0 ∧ fr F q = none
theorem RepI.free (hR : RepI g ρ ν (H, fi, fr, t)) (hW : GWf g) : Free H fi fr (gsz g) := ⟨hW.2.2.1, hR.2.1 _ (Nat.le_refl _), fun F hF => by
  obtain ⟨h1, h2⟩ := hW.2.2.2.1 (gsz g) (Nat.le_refl _)
  obtain ⟨h3, h4⟩ := hR.2.2.2.1 F (gsz g) hF
  exact ⟨h3.symm.trans (h2 F).1, h4.symm.trans (h2 F).2⟩⟩
theorem BW.newO {c L : Nat} (hC : M.2.2.1[i]? = some (47, a, b)) (hL : (glay.getD a []).length = L) (hc : a + 1 = c) (h12 : Nat.ble c 12 = true) (k : ∀ q, Free H fi fr q → BW d M (i + 1) ls (.inr (.inr (some q)) :: st) (upH H q (oOwn c), fi, fr, t + (12 + L)) Q) : BW d M i ls st (H, fi, fr, t) Q := by
  rintro g ⟨ρ, ν, hR⟩
  refine GW.wf (fun hW => GW.new hC hL hc (fun q hq hA => ?_))
  subst hq
  exact k _ (hR.free hW) _ ⟨_, ν, hR.new hW (fun _ _ => ⟨hA, by omega, Nat.le_of_ble_eq_true h12⟩)⟩
theorem BW.newJ {c L : Nat} (hC : M.2.2.1[i]? = some (47, a, b)) (hL : (glay.getD a []).length = L) (hc : a + 1 = c) (k : ∀ q, Free H fi fr q → BW d M (i + 1) ls (.inr (.inr (some q)) :: st) (upH H q (oRaw c), fi, fr, t + (12 + L)) Q) : BW d M i ls st (H, fi, fr, t) Q := by
  rintro g ⟨ρ, ν, hR⟩
  refine GW.wf (fun hW => GW.new hC hL hc (fun q hq hA => ?_))
  subst hq
  exact k _ (hR.free hW) _ ⟨_, ν, hR.new hW (fun _ _ => ⟨hA, by omega, fun F _ => ⟨gnew_fi rfl, gnew_fr rfl⟩⟩)⟩
theorem BW.arrI {op : Nat} {x : Int} (hC : M.2.2.1[i]? = some (op, 100, b)) (ho : (op == 48 || op == 49) = true) (hx : 0 ≤ x ∧ x < 65536) (k : ∀ q, Free H fi fr q → BW d M (i + 1) ls (.inr (.inr (some q)) :: st) (upH H q (oIa (List.replicate x.toNat 0)), fi, fr, t + (12 + x.toNat)) Q) : BW d M i ls (.inl x :: st) (H, fi, fr, t) Q := by
  rintro g ⟨ρ, ν, hR⟩
  refine GW.wf (fun hW => GW.arr hC ho hx (fun q hq hA => ?_))
  subst hq
  refine k _ (hR.free hW) _ ⟨_, ν, hR.new hW (fun _ _ => ⟨hA, ?_, fun j hj => ?_⟩)⟩
  · rw [List.length_replicate]; exact gnew_len rfl
  · rw [List.length_replicate] at hj
    exact (gnew_ai rfl).trans (by simp [List.getD_eq_getElem?_getD, List.getElem?_replicate, hj])
theorem BW.arrR {op : Nat} {x : Int} (hC : M.2.2.1[i]? = some (op, a, b)) (ho : (op == 48 || op == 49) = true) (ha : (Nat.ble 104 a && Nat.ble a 107) = true) (hx : 0 ≤ x ∧ x < 65536) (k : ∀ q, Free H fi fr q → BW d M (i + 1) ls (.inr (.inr (some q)) :: st) (upH H q (oRa a (List.replicate x.toNat none)), fi, fr, t + (12 + x.toNat)) Q) : BW d M i ls (.inl x :: st) (H, fi, fr, t) Q := by
  rintro g ⟨ρ, ν, hR⟩
  refine GW.wf (fun hW => GW.arr hC ho hx (fun q hq hA => ?_))
  subst hq
  refine k _ (hR.free hW) _ ⟨_, ν, hR.new hW (fun _ _ => ⟨hA, ?_, ?_, fun j hj => ?_⟩)⟩
  · simp only [Bool.and_eq_true, Nat.ble_eq] at ha; exact ha
  · rw [List.length_replicate]; exact gnew_len rfl
  · rw [List.length_replicate] at hj
    exact (gnew_ar rfl).trans (by simp [List.getD_eq_getElem?_getD, List.getElem?_replicate, hj])
theorem BW.iald {x : Int} {xs : List Int} (hC : M.2.2.1[i]? = some (9, a, b)) (hn : H n = oIa xs) (hx : 0 ≤ x ∧ x < (xs.length : Int)) (k : inR (xs.getD x.toNat 0) → BW d M (i + 1) ls (.inl (xs.getD x.toNat 0) :: st) (H, fi, fr, t) Q) : BW d M i ls (.inl x :: .inr (.inr (some n)) :: st) (H, fi, fr, t) Q := by
  rintro g ⟨ρ, ν, hR⟩
  obtain ⟨q1, ⟨h1, h2, h3⟩, q3, q4⟩ := hR.obj hn rfl rfl
  exact GW.iald hC h1 h2 hx (h3 _ (by omega)) (fun z => k z g ⟨ρ, ν, hR⟩)
theorem BW.aald {x : Int} {c : Nat} {xs : List (Option Nat)} (hC : M.2.2.1[i]? = some (15, a, b)) (hn : H n = oRa c xs) (hx : 0 ≤ x ∧ x < (xs.length : Int)) (k : BW d M (i + 1) ls (.inr (.inr (xs.getD x.toNat none)) :: st) (H, fi, fr, t) Q) : BW d M i ls (.inl x :: .inr (.inr (some n)) :: st) (H, fi, fr, t) Q := by
  rintro g ⟨ρ, ν, hR⟩
  obtain ⟨q1, ⟨h1, h2, h3, h4⟩, q3, q4⟩ := hR.obj hn rfl rfl
  exact GW.aald hC h1 h2 h3 hx (h4 _ (by omega)) (k g ⟨ρ, ν, hR⟩)
theorem BW.alenI {xs : List Int} (hC : M.2.2.1[i]? = some (17, a, b)) (hn : H n = oIa xs) (k : xs.length < 65536 → BW d M (i + 1) ls (.inl (xs.length : Int) :: st) (H, fi, fr, t) Q) : BW d M i ls (.inr (.inr (some n)) :: st) (H, fi, fr, t) Q := by
  rintro g ⟨ρ, ν, hR⟩
  obtain ⟨q1, ⟨h1, h2, h3⟩, q3, q4⟩ := hR.obj hn rfl rfl
  exact GW.alen hC h1.1 rfl h2 (fun z => k z g ⟨ρ, ν, hR⟩)
theorem BW.alenR {c : Nat} {xs : List (Option Nat)} (hC : M.2.2.1[i]? = some (17, a, b)) (hn : H n = oRa c xs) (k : xs.length < 65536 → BW d M (i + 1) ls (.inl (xs.length : Int) :: st) (H, fi, fr, t) Q) : BW d M i ls (.inr (.inr (some n)) :: st) (H, fi, fr, t) Q := by
  rintro g ⟨ρ, ν, hR⟩
  obtain ⟨q1, ⟨h1, h2, h3, h4⟩, q3, q4⟩ := hR.obj hn rfl rfl
  refine GW.alen hC h1.1 ?_ h3 (fun z => k z g ⟨ρ, ν, hR⟩)
  simp only [Bool.and_eq_true, Nat.ble_eq, Bool.not_eq_true', beq_eq_false_iff_ne]
  omega
/-- calls -/
theorem BW.call {kind mid tag num : Nat} {as rest : List GV} {Q1 : GO → BS → Prop} (hC : M.2.2.1[i]? = some (60, a, b)) (hs : gsites[a]? = some (kind, mid, tag, num)) (hn : as.length = num) (hst : st = as.reverse ++ rest) (hr : Nat.ble ((rest.map gcat).sum) 8 = true)
    (htag : tag = 0 ∨ ∃ n, as.head? = some (aR n) ∧ ocls (H n) = tag ∧ ((H n).1 == 0) = false) (hin : (kind ≠ 4 ∧ kind ≠ 11) ∨ ∃ n, as.head? = some (aR n) ∧ 1000 ≤ n) (h : BM d mid as (H, fi, fr, t) Q1)
    (k : ∀ r S', Q1 (.inl r) S' → BW d M (i + 1) ls (r.toList ++ rest) S' Q)
    (kx : ∀ E q S', Q1 (.inr (E, q)) S' → (ghnd M.2.2.2 i = none ∧ Q (.inr (E, q)) S') ∨ ∃ h n, ghnd M.2.2.2 i = some (h, E) ∧ q = some n ∧ BW d M h ls [.inr (.inr (some n))] S' Q) : BW d M i ls st (H, fi, fr, t) Q := by
  rintro g ⟨ρ, ν, hR⟩
  refine GW.wf (fun hW => GW.call hC hs hn hst (Nat.le_of_ble_eq_true hr) ?_ ?_ (h g ⟨ρ, ν, hR⟩) (fun r g' ⟨S', hR', q⟩ => k r S' q g' hR') (fun E q g' ⟨S', hR', qq⟩ => (kx E q S' qq).imp (fun z => ⟨z.1, S', hR', z.2⟩) (fun ⟨h, n, e1, e2, kk⟩ => ⟨h, n, e1, e2, kk g' hR'⟩)))
  · rcases htag with z | ⟨m, z, z2, z3⟩
    · exact Or.inl z
    · right
      rw [z]
      exact grecv_c ((hR.cls hW rfl z3).1.trans z2)
  · rcases hin with z | ⟨m, z, z2⟩
    · exact Or.inl z
    · right
      rw [z]
      exact gnewv_c z2
theorem BW.cr {kind mid tag num : Nat} {as rest : List GV} {Q1 : Option GV → BS → Prop} (hC : M.2.2.1[i]? = some (60, a, b)) (hs : gsites[a]? = some (kind, mid, tag, num)) (hn : as.length = num) (hst : st = as.reverse ++ rest) (hr : Nat.ble ((rest.map gcat).sum) 8 = true)
    (htag : tag = 0 ∨ ∃ n, as.head? = some (aR n) ∧ ocls (H n) = tag ∧ ((H n).1 == 0) = false) (hin : (kind ≠ 4 ∧ kind ≠ 11) ∨ ∃ n, as.head? = some (aR n) ∧ 1000 ≤ n) (h : BMr d mid as (H, fi, fr, t) Q1)
    (k : ∀ r S', Q1 r S' → BW d M (i + 1) ls (r.toList ++ rest) S' Q) : BW d M i ls st (H, fi, fr, t) Q :=
  BW.call hC hs hn hst hr htag hin h (fun r g' ⟨v, e, q⟩ => by cases e; exact k _ _ q) (fun E q g' ⟨v, e, _⟩ => by cases e)
/-- throws -/
theorem BW.thr {c : Nat} (hC : M.2.2.1[i]? = some (62, a, b)) (hn : H n = oOwn c) (hc : c = 5 ∨ c = 11) (hh : ghnd M.2.2.2 i = none) (h : Q (.inr (c, some n)) (H, fi, fr, t)) : BW d M i ls (.inr (.inr (some n)) :: st) (H, fi, fr, t) Q := by
  rintro g ⟨ρ, ν, hR⟩
  obtain ⟨q1, ⟨h1, h2⟩, q3, q4⟩ := hR.obj hn rfl rfl
  refine GW.thr hC ⟨by rw [h1.1]; exact hc, q4⟩ hh ⟨_, ⟨ρ, ν, hR⟩, ?_⟩
  rw [h1.1]; exact h
end BC
