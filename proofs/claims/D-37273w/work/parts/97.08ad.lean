set_option maxRecDepth 100000
/-! ARRAYDEQUE -/
/-- the place of the j-th in a ring -/
def ix9 (h cap j : Nat) : Nat := if h + j < cap then h + j else h + j - cap
def ADs (g : GH) (n : Nat) (xs : List (Option Nat)) (a cap h : Nat) : Prop := GAt g n 15 ∧ gfi g 100 n = h ∧ gfi g 101 n = ix9 h cap xs.length ∧ gfr g 99 n = some a ∧ GAt g a 104 ∧ glen g a = cap ∧ (17 ≤ cap ∧ h < cap ∧ xs.length < cap) ∧ (∀ j, j < xs.length → gar g a (ix9 h cap j) = xs.getD j none) ∧ (∀ j, xs.length ≤ j → j < cap → gar g a (ix9 h cap j) = none) ∧ (∀ j, gokO g (gar g a j) = true) ∧ ∀ x ∈ xs, x ≠ none
def AdS (n a : Nat) : Nat → Prop := fun k => k = n ∨ k = a
def AdQ (g g' : GH) (n a cap : Nat) (xs' : List (Option Nat)) : Prop := ∃ a' cap' h', Kp g g' (AdS n a) (6 * (cap' - cap)) ∧ ADs g' n xs' a' cap' h' ∧ (a' = a ∨ gsz g ≤ a') ∧ a' < gsz g' ∧ cap ≤ cap' ∧ (cap' = cap ∨ cap' ≤ 2 * xs'.length + 10 ∧ 2 * cap' ≤ 3 * xs'.length + 70)
theorem ADs.kp {g g' : GH} {S : Nat → Prop} {c n a cap h : Nat} {xs : List (Option Nat)} (H : ADs g n xs a cap h) (hK : Kp g g' S c) (hW : GWf g) (k : SameC g g' n) (k2 : SameC g g' a) : ADs g' n xs a cap h := by
  obtain ⟨h1, h2, h3, h4, h5, h6, h7, h8, h9, h10, h11⟩ := H
  exact ⟨⟨k.1.trans h1.1, h1.2⟩, (k.2.2.1 100).trans h2, (k.2.2.1 101).trans h3, (k.2.2.2.1 99).trans h4, ⟨k2.1.trans h5.1, h5.2⟩, k2.2.1.trans h6, h7, fun j hj => (k2.2.2.2.2.2 _).trans (h8 j hj), fun j hj hj2 => (k2.2.2.2.2.2 _).trans (h9 j hj hj2), fun j => by rw [k2.2.2.2.2.2]; exact gokO.kp hK hW (h10 j), h11⟩
theorem ADs.at {g : GH} {n a cap h : Nat} {xs : List (Option Nat)} (H : ADs g n xs a cap h) : GAt g n 15 := H.1
section Ad
variable {d : Nat} {g : GH} {n a cap h : Nat} {xs : List (Option Nat)}
theorem G_adNew (h1 : GAt g n 15) (h2 : gfi g 100 n = 0) (h3 : gfi g 101 n = 0) : GMr (d + 2) gk_J7_init [aR n] g (fun r g' => r = none ∧ ∃ a, Kp g g' (fun k => k = n) 29 ∧ gsz g ≤ a ∧ a < gsz g' ∧ ADs g' n [] a 17 0) := by
  refine GMr.wf (fun hW => ?_)
  have hn : n < gsz g := hW.lt (by rw [h1.1]; decide)
  refine GM.of rfl rfl rfl ?_
  (repeat (refine GW.pl rfl rfl ?_))
  refine GW.c1 rfl rfl (by first | exact Or.inl rfl | exact Or.inr (grecv_at (by assumption)) | exact Or.inr (grecv_c (by assumption)) | exact Or.inr (grecv_c (SIs.cls (by assumption))) | exact Or.inr (grecv_at (BSb.at (by assumption)))) (by first | exact Or.inl (by decide) | exact Or.inr (gnewv_at (by assumption))) rfl (G_j0 (Or.inr (Or.inr h1))) ?_; rintro _ _ ⟨rfl, rfl⟩
  (repeat (refine GW.pl rfl rfl ?_))
  refine GW.arr rfl rfl (by decide) (fun a ha hAa => ?_)
  have hs := gnew_same (g := g) (c := 104) (L := 17) (s := 17) hn
  have h1' : GAt (gnew g 104 17 17) n 15 := ⟨hs.1.trans h1.1, h1.2⟩
  refine GW.putr rfl rfl h1' rfl ?_
  have hz : ∀ j, gar (gnew g 104 17 17) a j = none := fun j => gnew_ar ha
  refine GW.ret rfl rfl ⟨_, rfl, rfl, a, ((Kp.new (s := 17) hW).tr (Kp.fr (S := fun k => k = n) (F := 99) (n := n) (r := some a) rfl rfl)), by omega, by show a < gsz g + 1; omega, h1', (hs.2.2.1 100).trans h2, (hs.2.2.1 101).trans h3, gfr_eq, hAa, gnew_len (c := 104) (L := 17) (s := 17) ha, ⟨by decide, by decide, by decide⟩, fun j hj => (by cases hj), fun j _ _ => hz _, fun j => ?_, fun x hx => (by cases hx)⟩
  have e : gar (gsfr (gnew g 104 (Int.toNat 17) (Int.toNat 17)) 99 n (some a)) a j = none := hz j
  rw [e]; rfl
theorem G_adEmp (H : ADs g n xs a cap h) : GE (d + 1) gk_J7_isEmpty [aR n] g (vI (if xs = [] then 1 else 0)) := by
  refine GMr.wf (fun hW => ?_)
  obtain ⟨h1, h2, h3, h4, h5, h6, h7, h8, h9, h10, h11⟩ := H
  have hc := hW.2.2.2.2 a
  rw [h6] at hc
  have hi : ix9 h cap xs.length = h ↔ xs.length = 0 := by unfold ix9; split <;> omega
  have hi2 : ix9 h cap xs.length < cap := by unfold ix9; split <;> omega
  refine GM.of rfl rfl rfl ?_
  (repeat (first | (refine GW.pl rfl rfl ?_) | (refine GW.geti rfl rfl (by first | exact GHas.at (by assumption) rfl | exact GHas.k (by assumption) rfl rfl) (by first | assumption | rfl) (fun _ => ?_)) | (refine GW.getr rfl rfl (by first | exact GHas.at (by assumption) rfl | exact GHas.k (by assumption) rfl rfl) (by first | assumption | rfl) ?_)))
  refine GW.br rfl rfl (by first | omega | decide | (constructor <;> first | omega | decide)) (fun h12 => ?_) (fun h12 => ?_)
  · (repeat (refine GW.pl rfl rfl ?_))
    rw [if_neg (fun z => h12 (by rw [(hi.mpr (by rw [z]; rfl))]))]
    exact GW.ir2 rfl rfl (by decide) ⟨_, rfl, rfl, rfl⟩
  · (repeat (refine GW.pl rfl rfl ?_))
    rw [if_pos (List.length_eq_zero_iff.mp (hi.mp (by omega)))]
    exact GW.ir2 rfl rfl (by decide) ⟨_, rfl, rfl, rfl⟩
theorem G_adSub {x y z : Int} (h : (0 ≤ x ∧ x < z) ∧ (0 ≤ y ∧ y < z) ∧ z < 65536) : GE (d + 1) gk_J7_sub [aI x, aI y, aI z] g (vI (if 0 ≤ x - y then x - y else x - y + z)) := by
  refine GM.of rfl rfl rfl ?_
  (repeat (refine GW.pl rfl rfl ?_))
  refine GW.br rfl rfl (by first | omega | decide | (constructor <;> first | omega | decide)) (fun h1 => ?_) (fun h1 => ?_)
  · (repeat (refine GW.pl rfl rfl ?_))
    rw [if_pos h1]
    exact GW.ir1 rfl rfl ⟨by omega, by omega⟩ ⟨_, rfl, rfl, rfl⟩
  · (repeat (refine GW.pl rfl rfl ?_))
    rw [if_neg (by omega)]
    exact GW.ir1 rfl rfl ⟨by omega, by omega⟩ ⟨_, rfl, rfl, rfl⟩
theorem G_adSize (H : ADs g n xs a cap h) : GE (d + 2) gk_J7_size [aR n] g (vI xs.length) := by
  refine GMr.wf (fun hW => ?_)
  obtain ⟨h1, h2, h3, h4, h5, h6, h7, h8, h9, h10, h11⟩ := H
  have hc := hW.2.2.2.2 a
  rw [h6] at hc
  have hi : ix9 h cap xs.length < cap ∧ (if 0 ≤ ((ix9 h cap xs.length : Nat) : Int) - (h : Int) then ((ix9 h cap xs.length : Nat) : Int) - (h : Int) else ((ix9 h cap xs.length : Nat) : Int) - (h : Int) + cap) = xs.length := by unfold ix9; split <;> split <;> omega
  refine GM.of rfl rfl rfl ?_
  (repeat (first | (refine GW.pl rfl rfl ?_) | (refine GW.geti rfl rfl (by first | exact GHas.at (by assumption) rfl | exact GHas.k (by assumption) rfl rfl) (by first | assumption | rfl) (fun _ => ?_)) | (refine GW.getr rfl rfl (by first | exact GHas.at (by assumption) rfl | exact GHas.k (by assumption) rfl rfl) (by first | assumption | rfl) ?_)))
  refine GW.alen rfl h5.1 rfl h6 (fun hl => ?_)
  refine GW.c3 rfl rfl (by first | exact Or.inl rfl | exact Or.inr (grecv_at (by assumption)) | exact Or.inr (grecv_c (by assumption)) | exact Or.inr (grecv_c (SIs.cls (by assumption))) | exact Or.inr (grecv_at (BSb.at (by assumption)))) (by first | exact Or.inl (by decide) | exact Or.inr (gnewv_at (by assumption))) rfl (G_adSub (x := ((ix9 h cap xs.length : Nat) : Int)) (y := (h : Int)) (z := (cap : Int)) ⟨⟨by omega, by omega⟩, ⟨by omega, by omega⟩, by omega⟩) ?_; rintro _ _ ⟨rfl, rfl⟩
  rw [hi.2]
  exact GW.ir1 rfl rfl ⟨by omega, by omega⟩ ⟨_, rfl, rfl, rfl⟩
theorem G_adInc {x z : Nat} (h : x < z ∧ z < 65536) : GE (d + 1) gk_J7_inc [aI x, aI z] g (vI ((if x + 1 < z then x + 1 else 0 : Nat) : Int)) := by
  refine GM.of rfl rfl rfl ?_
  (repeat (refine GW.pl rfl rfl ?_))
  refine GW.br rfl rfl (by first | omega | decide | (constructor <;> first | omega | decide)) (fun h1 => ?_) (fun h1 => ?_)
  · (repeat (refine GW.pl rfl rfl ?_))
    rw [if_pos (by omega)]
    exact GW.ir1 rfl rfl ⟨by omega, by omega⟩ ⟨_, rfl, rfl, rfl⟩
  · (repeat (refine GW.pl rfl rfl ?_))
    rw [if_neg (by omega)]
    exact GW.ir1 rfl rfl (by decide) ⟨_, rfl, rfl, rfl⟩
theorem G_adDec {x z : Nat} (h : x < z ∧ z < 65536) : GE (d + 1) gk_J7_dec [aI x, aI z] g (vI ((if 0 < x then x - 1 else z - 1 : Nat) : Int)) := by
  refine GM.of rfl rfl rfl ?_
  (repeat (refine GW.pl rfl rfl ?_))
  refine GW.br rfl rfl (by first | omega | decide | (constructor <;> first | omega | decide)) (fun h1 => ?_) (fun h1 => ?_)
  · (repeat (refine GW.pl rfl rfl ?_))
    rw [if_pos (by omega)]
    exact GW.ir1 rfl rfl ⟨by omega, by omega⟩ ⟨_, by congr 3; omega, rfl, rfl⟩
  · (repeat (refine GW.pl rfl rfl ?_))
    rw [if_neg (by omega)]
    exact GW.ir1 rfl rfl ⟨by omega, by omega⟩ ⟨_, by congr 3; omega, rfl, rfl⟩
theorem G_adEl (h5 : GAt g a 104) (h6 : glen g a = cap) {i : Nat} (hi : i < cap) : GE (d + 1) gk_J7_elementAt [aR a, aI i] g (vR (gar g a i)) := by
  refine GM.of rfl rfl rfl ?_
  (repeat (refine GW.pl rfl rfl ?_))
  refine GW.aald rfl h5 (by decide) h6 (by omega) rfl ?_
  exact GW.aret rfl rfl ⟨_, rfl, rfl, rfl⟩
theorem ADs.lt (H : ADs g n xs a cap h) (hW : GWf g) : n < gsz g ∧ a < gsz g ∧ cap < 65536 ∧ n ≠ a ∧ ix9 h cap xs.length < cap := by
  obtain ⟨h1, h2, h3, h4, h5, h6, h7, -⟩ := H
  have hc := hW.2.2.2.2 a
  rw [h6] at hc
  exact ⟨hW.lt (by rw [h1.1]; decide), hW.lt (by rw [h5.1]; decide), hc, (fun z => by have := h1.1; rw [z, h5.1] at this; cases this), by unfold ix9; split <;> omega⟩
theorem ix9_lt {j : Nat} (hh : h < cap) (hj : j < cap) : ix9 h cap j < cap := by unfold ix9; split <;> omega
theorem ix9_inj {i j : Nat} (hh : h < cap) (hi : i < cap) (hj : j < cap) (e : ix9 h cap i = ix9 h cap j) : i = j := by unfold ix9 at e; split at e <;> split at e <;> omega
theorem G_adPeek (H : ADs g n xs a cap h) (hx : 0 < xs.length) : GE (d + 2) gk_J7_peekLast [aR n] g (vR (xs.getD (xs.length - 1) none)) := by
  refine GMr.wf (fun hW => ?_)
  have hlt := H.lt hW
  obtain ⟨h1, h2, h3, h4, h5, h6, h7, h8, h9, h10, h11⟩ := H
  have e : (if 0 < ix9 h cap xs.length then ix9 h cap xs.length - 1 else cap - 1) = ix9 h cap (xs.length - 1) := by unfold ix9; split <;> split <;> split <;> omega
  refine GM.of rfl rfl rfl ?_
  (repeat (first | (refine GW.pl rfl rfl ?_) | (refine GW.geti rfl rfl (by first | exact GHas.at (by assumption) rfl | exact GHas.k (by assumption) rfl rfl) (by first | assumption | rfl) (fun _ => ?_)) | (refine GW.getr rfl rfl (by first | exact GHas.at (by assumption) rfl | exact GHas.k (by assumption) rfl rfl) (by first | assumption | rfl) ?_)))
  refine GW.alen rfl h5.1 rfl h6 (fun hl => ?_)
  refine GW.c2 rfl rfl (by first | exact Or.inl rfl | exact Or.inr (grecv_at (by assumption)) | exact Or.inr (grecv_c (by assumption)) | exact Or.inr (grecv_c (SIs.cls (by assumption))) | exact Or.inr (grecv_at (BSb.at (by assumption)))) (by first | exact Or.inl (by decide) | exact Or.inr (gnewv_at (by assumption))) rfl (G_adDec (x := ix9 h cap xs.length) (z := cap) ⟨hlt.2.2.2.2, hlt.2.2.1⟩) ?_; rintro _ _ ⟨rfl, rfl⟩
  rw [e]
  refine GW.c2 rfl rfl (by first | exact Or.inl rfl | exact Or.inr (grecv_at (by assumption)) | exact Or.inr (grecv_c (by assumption)) | exact Or.inr (grecv_c (SIs.cls (by assumption))) | exact Or.inr (grecv_at (BSb.at (by assumption)))) (by first | exact Or.inl (by decide) | exact Or.inr (gnewv_at (by assumption))) rfl (G_adEl h5 h6 (ix9_lt h7.2.1 (by omega))) ?_; rintro _ _ ⟨rfl, rfl⟩
  rw [h8 _ (by omega)]
  exact GW.aret rfl rfl ⟨_, rfl, rfl, rfl⟩
theorem ADs.ne (H : ADs g n xs a cap h) {j : Nat} (hj : j < xs.length) : ∃ q, xs.getD j none = some q ∧ gokO g (some q) = true := by
  obtain ⟨h1, h2, h3, h4, h5, h6, h7, h8, h9, h10, h11⟩ := H
  have h12 := h10 (ix9 h cap j)
  rw [h8 j hj] at h12
  have h13 : xs.getD j none ≠ none := by
    rw [List.getD_eq_getElem?_getD, List.getElem?_eq_getElem hj]
    exact h11 _ (List.getElem_mem hj)
  cases hq : xs.getD j none with
  | none => exact absurd hq h13
  | some q => exact ⟨q, rfl, by rw [← hq]; exact h12⟩
/-- the last goes -/
theorem G_adPL (H : ADs g n xs a cap h) (hx : 0 < xs.length) : GMr (d + 2) gk_J7_pollLast [aR n] g (fun r g' => r = vR (xs.getD (xs.length - 1) none) ∧ Kp g g' (AdS n a) 0 ∧ ADs g' n (xs.take (xs.length - 1)) a cap h) := by
  refine GMr.wf (fun hW => ?_)
  have hlt := H.lt hW
  obtain ⟨q, hq, hq2⟩ := H.ne (j := xs.length - 1) (by omega)
  obtain ⟨h1, h2, h3, h4, h5, h6, h7, h8, h9, h10, h11⟩ := H
  have e : (if 0 < ix9 h cap xs.length then ix9 h cap xs.length - 1 else cap - 1) = ix9 h cap (xs.length - 1) := by unfold ix9; split <;> split <;> split <;> omega
  have hi := ix9_lt (h := h) (cap := cap) (j := xs.length - 1) h7.2.1 (by omega)
  refine GM.of rfl rfl rfl ?_
  (repeat (first | (refine GW.pl rfl rfl ?_) | (refine GW.geti rfl rfl (by first | exact GHas.at (by assumption) rfl | exact GHas.k (by assumption) rfl rfl) (by first | assumption | rfl) (fun _ => ?_)) | (refine GW.getr rfl rfl (by first | exact GHas.at (by assumption) rfl | exact GHas.k (by assumption) rfl rfl) (by first | assumption | rfl) ?_)))
  refine GW.alen rfl h5.1 rfl h6 (fun hl => ?_)
  refine GW.c2 rfl rfl (by first | exact Or.inl rfl | exact Or.inr (grecv_at (by assumption)) | exact Or.inr (grecv_c (by assumption)) | exact Or.inr (grecv_c (SIs.cls (by assumption))) | exact Or.inr (grecv_at (BSb.at (by assumption)))) (by first | exact Or.inl (by decide) | exact Or.inr (gnewv_at (by assumption))) rfl (G_adDec (x := ix9 h cap xs.length) (z := cap) ⟨hlt.2.2.2.2, hlt.2.2.1⟩) ?_; rintro _ _ ⟨rfl, rfl⟩
  rw [e]
  (repeat (refine GW.pl rfl rfl ?_))
  refine GW.c2 rfl rfl (by first | exact Or.inl rfl | exact Or.inr (grecv_at (by assumption)) | exact Or.inr (grecv_c (by assumption)) | exact Or.inr (grecv_c (SIs.cls (by assumption))) | exact Or.inr (grecv_at (BSb.at (by assumption)))) (by first | exact Or.inl (by decide) | exact Or.inr (gnewv_at (by assumption))) rfl (G_adEl h5 h6 hi) ?_; rintro _ _ ⟨rfl, rfl⟩
  rw [h8 _ (by omega), hq]
  (repeat (refine GW.pl rfl rfl ?_))
  refine GW.nul rfl rfl (gokO.gok hq2) ?_
  (repeat (refine GW.pl rfl rfl ?_))
  refine GW.puti rfl rfl h1 rfl ⟨by omega, by omega⟩ ?_
  (repeat (refine GW.pl rfl rfl ?_))
  refine GW.aast rfl h5 (by decide) h6 (by omega) (gput_O rfl) ?_
  (repeat (refine GW.pl rfl rfl ?_))
  have hl2 : (xs.take (xs.length - 1)).length = xs.length - 1 := by rw [List.length_take]; omega
  rw [Int.toNat_natCast]
  refine GW.aret rfl rfl ⟨_, rfl, rfl, (Kp.fi (S := AdS n a) rfl (Or.inl rfl)).tr (Kp.ar (Or.inr rfl)), h1, (gfi_nf (g := g) (F := 101) (n := n) (x := ((ix9 h cap (xs.length - 1) : Nat) : Int)) rfl).trans h2, ?_, h4, h5, h6, ⟨h7.1, h7.2.1, by omega⟩, fun j hj => ?_, fun j hj hj2 => ?_, fun j => ?_, fun x hx2 => h11 x (List.mem_of_mem_take hx2)⟩
  · rw [hl2]; exact gfi_eq (g := g) (F := 101) (n := n)
  · rw [hl2] at hj
    refine gar_at.trans ?_
    rw [if_neg (fun z => by have := ix9_inj h7.2.1 (by omega) (by omega) z; omega)]
    refine (h8 j (by omega)).trans ?_
    rw [List.getD_eq_getElem?_getD, List.getD_eq_getElem?_getD, List.getElem?_take_of_lt hj]
  · rw [hl2] at hj
    refine gar_at.trans ?_
    by_cases hj3 : j = xs.length - 1
    · rw [if_pos (by rw [hj3])]
    · rw [if_neg (fun z => by have := ix9_inj h7.2.1 (by omega) (by omega) z; omega)]
      exact h9 j (by omega) hj2
  · show gokO g (gar (gsar g a _ none) a j) = true
    rw [gar_at]
    split
    · rfl
    · exact h10 j
theorem G_adRL (H : ADs g n xs a cap h) (hx : 0 < xs.length) : GMr (d + 3) gk_J7_removeLast [aR n] g (fun r g' => r = vR (xs.getD (xs.length - 1) none) ∧ Kp g g' (AdS n a) 0 ∧ ADs g' n (xs.take (xs.length - 1)) a cap h) := by
  refine GMr.wf (fun hW => ?_)
  obtain ⟨q, hq, hq2⟩ := H.ne (j := xs.length - 1) (by omega)
  have h1 := H.1
  refine GM.of rfl rfl rfl ?_
  (repeat (refine GW.pl rfl rfl ?_))
  refine GW.c1 rfl rfl (by first | exact Or.inl rfl | exact Or.inr (grecv_at (by assumption)) | exact Or.inr (grecv_c (by assumption)) | exact Or.inr (grecv_c (SIs.cls (by assumption))) | exact Or.inr (grecv_at (BSb.at (by assumption)))) (by first | exact Or.inl (by decide) | exact Or.inr (gnewv_at (by assumption))) rfl (G_adPL H hx) ?_
  rintro _ g1 ⟨rfl, hK, hA⟩
  rw [hq]
  (repeat (refine GW.pl rfl rfl ?_))
  refine GW.nul rfl rfl (gokO.gok (gokO.kp hK hW hq2)) ?_
  (repeat (refine GW.pl rfl rfl ?_))
  exact GW.aret rfl rfl ⟨_, rfl, rfl, hK, hA⟩
/-- the first goes -/
theorem G_adPF (H : ADs g n xs a cap h) (hx : 0 < xs.length) : GMr (d + 2) gk_J7_pollFirst [aR n] g (fun r g' => r = vR (xs.getD 0 none) ∧ Kp g g' (AdS n a) 0 ∧ ∃ h', ADs g' n (xs.drop 1) a cap h') := by
  refine GMr.wf (fun hW => ?_)
  have hlt := H.lt hW
  obtain ⟨q, hq, hq2⟩ := H.ne (j := 0) hx
  obtain ⟨h1, h2, h3, h4, h5, h6, h7, h8, h9, h10, h11⟩ := H
  have h0 : ix9 h cap 0 = h := by unfold ix9; split <;> omega
  have e0 := h8 0 hx
  rw [h0] at e0
  refine GM.of rfl rfl rfl ?_
  (repeat (first | (refine GW.pl rfl rfl ?_) | (refine GW.geti rfl rfl (by first | exact GHas.at (by assumption) rfl | exact GHas.k (by assumption) rfl rfl) (by first | assumption | rfl) (fun _ => ?_)) | (refine GW.getr rfl rfl (by first | exact GHas.at (by assumption) rfl | exact GHas.k (by assumption) rfl rfl) (by first | assumption | rfl) ?_)))
  refine GW.c2 rfl rfl (by first | exact Or.inl rfl | exact Or.inr (grecv_at (by assumption)) | exact Or.inr (grecv_c (by assumption)) | exact Or.inr (grecv_c (SIs.cls (by assumption))) | exact Or.inr (grecv_at (BSb.at (by assumption)))) (by first | exact Or.inl (by decide) | exact Or.inr (gnewv_at (by assumption))) rfl (G_adEl h5 h6 h7.2.1) ?_; rintro _ _ ⟨rfl, rfl⟩
  rw [e0, hq]
  (repeat (refine GW.pl rfl rfl ?_))
  refine GW.nul rfl rfl (gokO.gok hq2) ?_
  (repeat (refine GW.pl rfl rfl ?_))
  refine GW.aast rfl h5 (by decide) h6 (by omega) (gput_O rfl) ?_
  (repeat (refine GW.pl rfl rfl ?_))
  refine GW.alen rfl h5.1 rfl h6 (fun hl => ?_)
  refine GW.c2 rfl rfl (by first | exact Or.inl rfl | exact Or.inr (grecv_at (by assumption)) | exact Or.inr (grecv_c (by assumption)) | exact Or.inr (grecv_c (SIs.cls (by assumption))) | exact Or.inr (grecv_at (BSb.at (by assumption)))) (by first | exact Or.inl (by decide) | exact Or.inr (gnewv_at (by assumption))) rfl (G_adInc (x := h) (z := cap) ⟨h7.2.1, hlt.2.2.1⟩) ?_; rintro _ _ ⟨rfl, rfl⟩
  refine GW.puti rfl rfl h1 rfl ⟨by omega, by split <;> omega⟩ ?_
  (repeat (refine GW.pl rfl rfl ?_))
  rw [Int.toNat_natCast]
  have hl2 : (xs.drop 1).length = xs.length - 1 := List.length_drop
  have hh' : (if h + 1 < cap then h + 1 else 0) < cap := by split <;> omega
  have ixs : ∀ j, j + 1 < cap → ix9 (if h + 1 < cap then h + 1 else 0) cap j = ix9 h cap (j + 1) := by intro j hj; unfold ix9; split <;> split <;> split <;> omega
  refine GW.aret rfl rfl ⟨_, rfl, rfl, (Kp.ar (S := AdS n a) (Or.inr rfl)).tr (Kp.fi rfl (Or.inl rfl)), (if h + 1 < cap then h + 1 else 0), h1, gfi_eq, ?_, h4, h5, h6, ⟨h7.1, hh', by omega⟩, fun j hj => ?_, fun j hj hj2 => ?_, fun j => ?_, fun x hx2 => h11 x (List.mem_of_mem_drop hx2)⟩
  · rw [hl2, ixs _ (by omega), show xs.length - 1 + 1 = xs.length by omega]
    exact (gfi_nf (g := gsar g a h none) (F := 100) (n := n) rfl).trans h3
  · rw [hl2] at hj
    rw [ixs j (by omega)]
    refine gar_at.trans ?_
    rw [if_neg (fun z => by have z2 : ix9 h cap (j + 1) = ix9 h cap 0 := z.trans h0.symm; have := ix9_inj h7.2.1 (by omega) (by omega) z2; omega)]
    refine (h8 (j + 1) (by omega)).trans ?_
    rw [List.getD_eq_getElem?_getD, List.getD_eq_getElem?_getD, List.getElem?_drop, Nat.add_comm]
  · rw [hl2] at hj
    refine gar_at.trans ?_
    by_cases hj3 : j + 1 < cap
    · rw [ixs j hj3]
      split
      · rfl
      · exact h9 (j + 1) (by omega) hj3
    · rw [if_pos (by unfold ix9; split <;> split <;> omega)]
  · show gokO g (gar (gsar g a _ none) a j) = true
    rw [gar_at]
    split
    · rfl
    · exact h10 j
theorem G_adRF (H : ADs g n xs a cap h) (hx : 0 < xs.length) : GMr (d + 3) gk_J7_removeFirst [aR n] g (fun r g' => r = vR (xs.getD 0 none) ∧ Kp g g' (AdS n a) 0 ∧ ∃ h', ADs g' n (xs.drop 1) a cap h') := by
  refine GMr.wf (fun hW => ?_)
  obtain ⟨q, hq, hq2⟩ := H.ne (j := 0) hx
  have h1 := H.1
  refine GM.of rfl rfl rfl ?_
  (repeat (refine GW.pl rfl rfl ?_))
  refine GW.c1 rfl rfl (by first | exact Or.inl rfl | exact Or.inr (grecv_at (by assumption)) | exact Or.inr (grecv_c (by assumption)) | exact Or.inr (grecv_c (SIs.cls (by assumption))) | exact Or.inr (grecv_at (BSb.at (by assumption)))) (by first | exact Or.inl (by decide) | exact Or.inr (gnewv_at (by assumption))) rfl (G_adPF H hx) ?_
  rintro _ g1 ⟨rfl, hK, hA⟩
  rw [hq]
  (repeat (refine GW.pl rfl rfl ?_))
  refine GW.nul rfl rfl (gokO.gok (gokO.kp hK hW hq2)) ?_
  (repeat (refine GW.pl rfl rfl ?_))
  exact GW.aret rfl rfl ⟨_, rfl, rfl, hK, hA⟩
/-- a full ring gets room: what is behind the head moves up -/
theorem G_adGrow (h1 : GAt g n 15) (h2 : gfi g 100 n = h) (h3 : gfi g 101 n = h) (h4 : gfr g 99 n = some a) (h5 : GAt g a 104) (h6 : glen g a = cap) (h7 : 17 ≤ cap ∧ h < cap ∧ cap < 43000) (hl : xs.length = cap) (h8 : ∀ j, j < xs.length → gar g a (ix9 h cap j) = xs.getD j none) (h10 : ∀ j, gokO g (gar g a j) = true) (h11 : ∀ x ∈ xs, x ≠ none) :
    GMr (d + 3) gk_J7_grow [aR n, aI 1] g (fun r g' => r = none ∧ ∃ a' cap' h', Kp g g' (fun k => k = n) (6 * (cap' - cap)) ∧ ADs g' n xs a' cap' h' ∧ gsz g ≤ a' ∧ a' < gsz g' ∧ cap < cap' ∧ cap' ≤ 2 * cap + 2 ∧ 2 * cap' ≤ 3 * cap + 70) := by
  refine GMr.wf (fun hW => ?_)
  have hn : n < gsz g := hW.lt (by rw [h1.1]; decide)
  have hR : RIs g a [] cap := ⟨h6, Nat.zero_le _, fun j hj => (by cases hj), h10⟩
  have main : ∀ (J : Int) (Jn : Nat), J = Jn → (Jn = cap + 2 ∧ cap < 64 ∨ Jn = cap / 2 ∧ 64 ≤ cap) → GW (d + 2) gm_J7_grow 14 [some (aR n), some (aI 1), some (aI cap), none, none, none, none, none, none] [.inl J] g (fun r g' => ∃ v, r = .inl v ∧ v = none ∧ ∃ a' cap' h', Kp g g' (fun k => k = n) (6 * (cap' - cap)) ∧ ADs g' n xs a' cap' h' ∧ gsz g ≤ a' ∧ a' < gsz g' ∧ cap < cap' ∧ cap' ≤ 2 * cap + 2 ∧ 2 * cap' ≤ 3 * cap + 70) := by
    rintro _ J rfl hJ
    have hJ2 : 1 ≤ J ∧ J ≤ cap + 2 ∧ 12 + cap + J ≤ 6 * J := by omega
    (repeat (refine GW.pl rfl rfl ?_))
    refine GW.br rfl rfl (by first | omega | decide | (constructor <;> first | omega | decide)) (fun h20 => by first | (exfalso; omega) | exact absurd h20 (by decide)) (fun h20 => ?_)
    (repeat (refine GW.pl rfl rfl ?_))
    refine GW.br rfl rfl (by first | omega | decide | (constructor <;> first | omega | decide)) (fun h20 => ?_) (fun h20 => by first | (exfalso; omega) | exact absurd h20 (by decide))
    (repeat (first | (refine GW.pl rfl rfl ?_) | (refine GW.geti rfl rfl (by first | exact GHas.at (by assumption) rfl | exact GHas.k (by assumption) rfl rfl) (by first | assumption | rfl) (fun _ => ?_)) | (refine GW.getr rfl rfl (by first | exact GHas.at (by assumption) rfl | exact GHas.k (by assumption) rfl rfl) (by first | assumption | rfl) ?_)))
    refine GW.c2 rfl rfl (by first | exact Or.inl rfl | exact Or.inr (grecv_at (by assumption)) | exact Or.inr (grecv_c (by assumption)) | exact Or.inr (grecv_c (SIs.cls (by assumption))) | exact Or.inr (grecv_at (BSb.at (by assumption)))) (by first | exact Or.inl (by decide) | exact Or.inr (gnewv_at (by assumption))) rfl (G_cpO h5 hR (x := (cap : Int) + J) ⟨by omega, by omega⟩) ?_
    rintro _ g1 ⟨q, rfl, hK, hq1, hq2, hAq, hRq, hcp, hcpn⟩
    rw [show ((cap : Int) + J).toNat = cap + J by omega] at hK hRq
    have hs := hK.2.2.1 n hn (fun z => z)
    have h1' : GAt g1 n 15 := ⟨hs.1.trans h1.1, h1.2⟩
    have h2' : gfi g1 100 n = h := (hs.2.2.1 100).trans h2
    have h3' : gfi g1 101 n = h := (hs.2.2.1 101).trans h3
    have hlq : glen g1 q = cap + J := hRq.1
    have hnq : n ≠ q := by omega
    (repeat (refine GW.pl rfl rfl ?_))
    first | (refine GW.puti rfl rfl (by assumption) rfl (by first | omega | decide | (constructor <;> first | omega | decide)) ?_) | (refine GW.putz rfl rfl (by assumption) rfl (by first | omega | decide | (constructor <;> first | omega | decide)) ?_) | (refine GW.putb rfl rfl (by assumption) rfl (by first | omega | decide | (constructor <;> first | omega | decide)) ?_) | (refine GW.putc rfl rfl (by assumption) rfl (by first | omega | decide | (constructor <;> first | omega | decide)) ?_) | (refine GW.putr rfl rfl (by assumption) rfl ?_)
    (repeat (first | (refine GW.pl rfl rfl ?_) | (refine GW.geti rfl rfl (by first | exact GHas.at (by assumption) rfl | exact GHas.k (by assumption) rfl rfl) (by first | assumption | rfl) (fun _ => ?_)) | (refine GW.getr rfl rfl (by first | exact GHas.at (by assumption) rfl | exact GHas.k (by assumption) rfl rfl) (by first | assumption | rfl) ?_)))
    refine GW.br rfl rfl (by first | omega | decide | (constructor <;> first | omega | decide)) (fun h20 => by first | (exfalso; omega) | exact absurd h20 (by decide)) (fun h20 => ?_)
    (repeat (first | (refine GW.pl rfl rfl ?_) | (refine GW.geti rfl rfl (by first | exact GHas.at (by assumption) rfl | exact GHas.k (by assumption) rfl rfl) (by first | assumption | rfl) (fun _ => ?_)) | (refine GW.getr rfl rfl (by first | exact GHas.at (by assumption) rfl | exact GHas.k (by assumption) rfl rfl) (by first | assumption | rfl) ?_)))
    refine GW.br rfl rfl (by first | omega | decide | (constructor <;> first | omega | decide)) (fun h20 => by first | (exfalso; omega) | exact absurd h20 (by decide)) (fun h20 => ?_)
    (repeat (first | (refine GW.pl rfl rfl ?_) | (refine GW.geti rfl rfl (by first | exact GHas.at (by assumption) rfl | exact GHas.k (by assumption) rfl rfl) (by first | assumption | rfl) (fun _ => ?_)) | (refine GW.getr rfl rfl (by first | exact GHas.at (by assumption) rfl | exact GHas.k (by assumption) rfl rfl) (by first | assumption | rfl) ?_)))
    have hh : gar (gsfr g1 99 n (some q)) q ((h : Int)).toNat = gar g a h := by
      rw [Int.toNat_natCast]; exact hcp h h7.2.1
    have h0 : ix9 h cap 0 = h := by unfold ix9; split <;> omega
    have e0 := h8 0 (by omega)
    rw [h0] at e0
    have hne : ∃ q0, gar g a h = some q0 := by
      cases hz : gar g a h with
      | none =>
        exfalso
        rw [hz] at e0
        refine h11 (xs.getD 0 none) ?_ e0.symm
        rw [List.getD_eq_getElem?_getD, List.getElem?_eq_getElem (show 0 < xs.length by omega)]
        exact List.getElem_mem _
      | some q0 => exact ⟨q0, rfl⟩
    obtain ⟨q0, hq0⟩ := hne
    have hok0 := h10 h
    rw [hq0] at hok0
    refine GW.aald rfl hAq (by decide) hlq (by omega) (hh.trans hq0) ?_
    refine GW.nul rfl rfl (gokO.gok (gokO.kp hK hW hok0)) ?_
    (repeat (first | (refine GW.pl rfl rfl ?_) | (refine GW.geti rfl rfl (by first | exact GHas.at (by assumption) rfl | exact GHas.k (by assumption) rfl rfl) (by first | assumption | rfl) (fun _ => ?_)) | (refine GW.getr rfl rfl (by first | exact GHas.at (by assumption) rfl | exact GHas.k (by assumption) rfl rfl) (by first | assumption | rfl) ?_)))
    refine GW.cpr rfl hAq hAq (Nat.le_of_ble_eq_true rfl) ?_ (fun k hk => hRq.2.2.2 _) ?_
    · have : glen (gsfr g1 99 n (some q)) q = cap + J := hlq
      rw [this]
      refine ⟨by omega, by omega, by omega, by omega, by omega⟩
    (repeat (first | (refine GW.pl rfl rfl ?_) | (refine GW.geti rfl rfl (by first | exact GHas.at (by assumption) rfl | exact GHas.k (by assumption) rfl rfl) (by first | assumption | rfl) (fun _ => ?_)) | (refine GW.getr rfl rfl (by first | exact GHas.at (by assumption) rfl | exact GHas.k (by assumption) rfl rfl) (by first | assumption | rfl) ?_)))
    refine GW.puti rfl rfl h1' rfl ⟨by omega, by omega⟩ ?_
    (iterate 1 (refine GW.pl rfl rfl ?_))
    -- the elements now
    have hE : ∀ j, j < cap + J → gar (gcpr (gsfr g1 99 n (some q)) q q h ((h : Int) + ((cap : Int) + J - cap)) ((cap : Int) - h)) q j = if h + J ≤ j then gar g a (j - J) else if j < cap then gar g a j else none := by
      intro j hj
      rw [gcpr_at]
      by_cases c1 : h + J ≤ j
      · rw [if_pos c1, if_pos ⟨by omega, by omega⟩]
        show gar g1 q _ = _
        rw [hcp _ (by omega)]
        congr 1
        omega
      · rw [if_neg c1, if_neg (fun z => c1 (by omega))]
        show gar g1 q j = _
        by_cases c2 : j < cap
        · rw [if_pos c2]; exact hcp j c2
        · rw [if_neg c2]; exact hcpn j (by omega)
    have hok : ∀ j, gokO g1 (gar (gcpr (gsfr g1 99 n (some q)) q q h ((h : Int) + ((cap : Int) + J - cap)) ((cap : Int) - h)) q j) = true := by
      intro j
      rw [gcpr_at]
      split
      · exact hRq.2.2.2 _
      · exact hRq.2.2.2 _
    have hK2 : Kp g (gsfi (gcpr (gsfr g1 99 n (some q)) q q h ((h : Int) + ((cap : Int) + J - cap)) ((cap : Int) - h)) 100 n ((h : Int) + ((cap : Int) + J - cap))) (fun k => k = n) (6 * J) := by
      refine (hK.mono (S' := fun k => k = n) (c' := 6 * J) (by omega) (fun _ _ z => z.elim)).trans (S2 := fun k => k = n ∨ k = q) (((Kp.fr (S := fun k => k = n ∨ k = q) rfl (Or.inl rfl)).tr (Kp.cpr (Or.inr rfl))).tr (Kp.fi rfl (Or.inl rfl))) (fun k hk z => ?_)
      rcases z with z | z
      · exact z
      · omega
    have hq2' : q < gsz (gsfi (gcpr (gsfr g1 99 n (some q)) q q h ((h : Int) + ((cap : Int) + J - cap)) ((cap : Int) - h)) 100 n ((h : Int) + ((cap : Int) + J - cap))) := hq2
    have f100 : gfi (gsfi (gcpr (gsfr g1 99 n (some q)) q q h ((h : Int) + ((cap : Int) + J - cap)) ((cap : Int) - h)) 100 n ((h : Int) + ((cap : Int) + J - cap))) 100 n = ((h + J : Nat) : Int) := gfi_eq.trans (by omega)
    have f101 : gfi (gsfi (gcpr (gsfr g1 99 n (some q)) q q h ((h : Int) + ((cap : Int) + J - cap)) ((cap : Int) - h)) 100 n ((h : Int) + ((cap : Int) + J - cap))) 101 n = h := (gfi_nf (g := gcpr (gsfr g1 99 n (some q)) q q h ((h : Int) + ((cap : Int) + J - cap)) ((cap : Int) - h)) rfl).trans h3'
    have f99 : gfr (gsfi (gcpr (gsfr g1 99 n (some q)) q q h ((h : Int) + ((cap : Int) + J - cap)) ((cap : Int) - h)) 100 n ((h : Int) + ((cap : Int) + J - cap))) 99 n = some q := gfr_eq (g := g1)
    have hA1 : GAt (gsfi (gcpr (gsfr g1 99 n (some q)) q q h ((h : Int) + ((cap : Int) + J - cap)) ((cap : Int) - h)) 100 n ((h : Int) + ((cap : Int) + J - cap))) n 15 := h1'
    have hA2 : GAt (gsfi (gcpr (gsfr g1 99 n (some q)) q q h ((h : Int) + ((cap : Int) + J - cap)) ((cap : Int) - h)) 100 n ((h : Int) + ((cap : Int) + J - cap))) q 104 := hAq
    have hL2 : glen (gsfi (gcpr (gsfr g1 99 n (some q)) q q h ((h : Int) + ((cap : Int) + J - cap)) ((cap : Int) - h)) 100 n ((h : Int) + ((cap : Int) + J - cap))) q = cap + J := hlq
    have hgok : ∀ j, gokO (gsfi (gcpr (gsfr g1 99 n (some q)) q q h ((h : Int) + ((cap : Int) + J - cap)) ((cap : Int) - h)) 100 n ((h : Int) + ((cap : Int) + J - cap))) (gar (gsfi (gcpr (gsfr g1 99 n (some q)) q q h ((h : Int) + ((cap : Int) + J - cap)) ((cap : Int) - h)) 100 n ((h : Int) + ((cap : Int) + J - cap))) q j) = true := hok
    have hE' : ∀ j, j < cap + J → gar (gsfi (gcpr (gsfr g1 99 n (some q)) q q h ((h : Int) + ((cap : Int) + J - cap)) ((cap : Int) - h)) 100 n ((h : Int) + ((cap : Int) + J - cap))) q j = if h + J ≤ j then gar g a (j - J) else if j < cap then gar g a j else none := hE
    generalize gsfi (gcpr (gsfr g1 99 n (some q)) q q h ((h : Int) + ((cap : Int) + J - cap)) ((cap : Int) - h)) 100 n ((h : Int) + ((cap : Int) + J - cap)) = g2 at hK2 hq2' f100 f101 f99 hA1 hA2 hL2 hgok hE' ⊢
    have loop : ∀ (m i : Nat) (g3 : GH), m + i = h + J → h ≤ i → Kp g g3 (fun k => k = n) (6 * J) → q < gsz g3 → gfi g3 100 n = ((h + J : Nat) : Int) → gfi g3 101 n = h → gfr g3 99 n = some q → GAt g3 n 15 → GAt g3 q 104 → glen g3 q = cap + J → (∀ j, gokO g3 (gar g3 q j) = true) → (∀ j, j < cap + J → gar g3 q j = if h + J ≤ j then gar g a (j - J) else if h ≤ j ∧ j < i then none else if j < cap then gar g a j else none) → GW (d + 2) gm_J7_grow 82 [some (aR n), some (aI 1), some (aI cap), some (aI ((cap : Int) + J)), some (aI J), some (aR q), some (aI ((cap : Int) + J - cap)), some (aI i), some (aI ((h : Int) + ((cap : Int) + J - cap)))] [] g3 (fun r g' => ∃ v, r = .inl v ∧ v = none ∧ ∃ a' cap' h', Kp g g' (fun k => k = n) (6 * (cap' - cap)) ∧ ADs g' n xs a' cap' h' ∧ gsz g ≤ a' ∧ a' < gsz g' ∧ cap < cap' ∧ cap' ≤ 2 * cap + 2 ∧ 2 * cap' ≤ 3 * cap + 70) := by
      intro m
      induction m with
      | zero =>
        intro i g3 hi hi2 p1 p2 p3 p4 p5 p6 p7 p8 p9 p10
        (repeat (refine GW.pl rfl rfl ?_))
        refine GW.br rfl rfl (by first | omega | decide | (constructor <;> first | omega | decide)) (fun h21 => ?_) (fun h21 => by first | (exfalso; omega) | exact absurd h21 (by decide))
        refine GW.ret rfl rfl ⟨_, rfl, rfl, q, cap + J, h + J, by rw [show cap + J - cap = J by omega]; exact p1, ⟨p6, p3, ?_, p5, p7, p8, ⟨by omega, by omega, by omega⟩, fun j hj => ?_, fun j hj hj2 => ?_, p9, h11⟩, hq1, p2, by omega, by omega, by omega⟩
        · rw [p4]; unfold ix9; split <;> omega
        · rw [← h8 j hj, p10 _ (ix9_lt (by omega) (by omega))]
          unfold ix9
          by_cases c1 : h + j < cap
          · rw [if_pos (show h + J + j < cap + J by omega), if_pos (by omega), if_pos c1]
            congr 1; omega
          · rw [if_neg (show ¬ h + J + j < cap + J by omega), if_neg (by omega), if_neg (by omega), if_pos (by omega), if_neg c1]
            congr 1; omega
        · rw [p10 _ (ix9_lt (by omega) (by omega))]
          unfold ix9
          rw [if_neg (show ¬ h + J + j < cap + J by omega), if_neg (by omega), if_pos (by omega)]
      | succ m ih =>
        intro i g3 hi hi2 p1 p2 p3 p4 p5 p6 p7 p8 p9 p10
        (repeat (refine GW.pl rfl rfl ?_))
        refine GW.br rfl rfl (by first | omega | decide | (constructor <;> first | omega | decide)) (fun h21 => by first | (exfalso; omega) | exact absurd h21 (by decide)) (fun h21 => ?_)
        (repeat (refine GW.pl rfl rfl ?_))
        refine GW.aast rfl p7 (by decide) p8 (by omega) (gput_O rfl) ?_
        (iterate 2 (refine GW.pl rfl rfl ?_))
        rw [Int.toNat_natCast]
        refine ih (i + 1) _ (by omega) (by omega) (p1.trans (S2 := fun k => k = q) (Kp.ar rfl) (fun k hk z => by omega)) p2 p3 p4 p5 p6 p7 p8 (fun j => ?_) (fun j hj => ?_)
        · show gokO g3 (gar (gsar g3 q i none) q j) = true
          rw [gar_at]
          split
          · rfl
          · exact p9 j
        · rw [gar_at, p10 j hj]
          by_cases c0 : j = i
          · rw [if_pos c0, if_neg (show ¬ h + J ≤ j by omega), if_pos (show h ≤ j ∧ j < i + 1 from ⟨by omega, by omega⟩)]
          · rw [if_neg c0]
            by_cases c1 : h + J ≤ j
            · rw [if_pos c1, if_pos c1]
            · rw [if_neg c1, if_neg c1]
              by_cases c2 : h ≤ j ∧ j < i
              · rw [if_pos c2, if_pos (show h ≤ j ∧ j < i + 1 from ⟨c2.1, by have := c2.2; omega⟩)]
              · rw [if_neg c2, if_neg (show ¬ (h ≤ j ∧ j < i + 1) from fun z => c2 ⟨z.1, by have := z.2; omega⟩)]
    refine loop J h g2 (by omega) (Nat.le_refl _) hK2 hq2' f100 f101 f99 hA1 hA2 hL2 hgok (fun j hj => ?_)
    rw [hE' j hj]
    by_cases c1 : h + J ≤ j
    · rw [if_pos c1, if_pos c1]
    · rw [if_neg c1, if_neg c1, if_neg (show ¬ (h ≤ j ∧ j < h) by omega)]
  refine GM.of rfl rfl rfl ?_
  (repeat (first | (refine GW.pl rfl rfl ?_) | (refine GW.geti rfl rfl (by first | exact GHas.at (by assumption) rfl | exact GHas.k (by assumption) rfl rfl) (by first | assumption | rfl) (fun _ => ?_)) | (refine GW.getr rfl rfl (by first | exact GHas.at (by assumption) rfl | exact GHas.k (by assumption) rfl rfl) (by first | assumption | rfl) ?_)))
  refine GW.alen rfl h5.1 rfl h6 (fun hl2 => ?_)
  (repeat (refine GW.pl rfl rfl ?_))
  refine GW.br rfl rfl (by first | omega | decide | (constructor <;> first | omega | decide)) (fun h20 => ?_) (fun h20 => ?_)
  · (repeat (refine GW.pl rfl rfl ?_))
    refine GW.bin rfl (g_shr1 ⟨by omega, by omega⟩) ?_
    exact main ((cap : Int) / 2) (cap / 2) (by omega) (Or.inr ⟨rfl, by omega⟩)
  · (iterate 4 (refine GW.pl rfl rfl ?_))
    exact main ((cap : Int) + 2) (cap + 2) (by omega) (Or.inl ⟨rfl, by omega⟩)
theorem G_adAdd (H : ADs g n xs a cap h) {v : Nat} (hv : gokO g (some v) = true) (hc : cap < 43000) : GMr (d + 4) gk_J7_addLast [aR n, aR v] g (fun r g' => r = none ∧ AdQ g g' n a cap (xs ++ [some v])) := by
  refine GMr.wf (fun hW => ?_)
  have hlt := H.lt hW
  obtain ⟨h1, h2, h3, h4, h5, h6, h7, h8, h9, h10, h11⟩ := H
  have hne : ∀ x ∈ xs ++ [some v], x ≠ none := by
    intro x hx
    rcases List.mem_append.mp hx with hx | hx
    · exact h11 x hx
    · rw [List.mem_singleton] at hx; rw [hx]; exact fun z => by cases z
  have hla : (xs ++ [some v]).length = xs.length + 1 := by rw [List.length_append]; rfl
  have hinc : (if ix9 h cap xs.length + 1 < cap then ix9 h cap xs.length + 1 else 0) = ix9 h cap (xs.length + 1) ∨ (xs.length + 1 = cap ∧ (if ix9 h cap xs.length + 1 < cap then ix9 h cap xs.length + 1 else 0) = h) := by unfold ix9; split <;> split <;> (try split) <;> omega
  have hin2 : (if ix9 h cap xs.length + 1 < cap then ix9 h cap xs.length + 1 else 0) < cap := by split <;> omega
  have hel : ∀ j, j < (xs ++ [some v]).length → gar (gsar g a (ix9 h cap xs.length) (some v)) a (ix9 h cap j) = (xs ++ [some v]).getD j none := by
    intro j hj
    rw [hla] at hj
    rw [gar_at]
    by_cases hjs : j = xs.length
    · subst hjs
      rw [if_pos rfl, List.getD_eq_getElem?_getD, List.getElem?_append_right (Nat.le_refl _), Nat.sub_self]; rfl
    · rw [if_neg (fun z => hjs (ix9_inj h7.2.1 (by omega) (by omega) z)), h8 j (by omega), List.getD_eq_getElem?_getD, List.getD_eq_getElem?_getD, List.getElem?_append_left (by omega)]
  have hgk : ∀ j, gokO g (gar (gsar g a (ix9 h cap xs.length) (some v)) a j) = true := by
    intro j
    rw [gar_at]
    split
    · exact hv
    · exact h10 j
  refine GM.of rfl rfl rfl ?_
  (repeat (refine GW.pl rfl rfl ?_))
  refine GW.nul rfl rfl (gokO.gok hv) ?_
  (repeat (first | (refine GW.pl rfl rfl ?_) | (refine GW.geti rfl rfl (by first | exact GHas.at (by assumption) rfl | exact GHas.k (by assumption) rfl rfl) (by first | assumption | rfl) (fun _ => ?_)) | (refine GW.getr rfl rfl (by first | exact GHas.at (by assumption) rfl | exact GHas.k (by assumption) rfl rfl) (by first | assumption | rfl) ?_)))
  refine GW.aast rfl h5 (by decide) h6 (by omega) (gput_O hv) ?_
  rw [Int.toNat_natCast]
  (repeat (first | (refine GW.pl rfl rfl ?_) | (refine GW.geti rfl rfl (by first | exact GHas.at (by assumption) rfl | exact GHas.k (by assumption) rfl rfl) (by first | assumption | rfl) (fun _ => ?_)) | (refine GW.getr rfl rfl (by first | exact GHas.at (by assumption) rfl | exact GHas.k (by assumption) rfl rfl) (by first | assumption | rfl) ?_)))
  refine GW.alen rfl h5.1 rfl h6 (fun hl => ?_)
  refine GW.c2 rfl rfl (by first | exact Or.inl rfl | exact Or.inr (grecv_at (by assumption)) | exact Or.inr (grecv_c (by assumption)) | exact Or.inr (grecv_c (SIs.cls (by assumption))) | exact Or.inr (grecv_at (BSb.at (by assumption)))) (by first | exact Or.inl (by decide) | exact Or.inr (gnewv_at (by assumption))) rfl (G_adInc (x := ix9 h cap xs.length) (z := cap) ⟨hlt.2.2.2.2, hlt.2.2.1⟩) ?_; rintro _ _ ⟨rfl, rfl⟩
  (repeat (refine GW.pl rfl rfl ?_))
  refine GW.puti rfl rfl h1 rfl ⟨by omega, by omega⟩ ?_
  by_cases hf : xs.length + 1 = cap
  · have hT : (if ix9 h cap xs.length + 1 < cap then ix9 h cap xs.length + 1 else 0) = h := by unfold ix9; split <;> split <;> omega
    rw [hT]
    refine GW.br rfl rfl (by first | omega | decide | (constructor <;> first | omega | decide)) (fun h20 => by first | (exfalso; omega) | exact absurd h20 (by decide)) (fun h20 => ?_)
    (repeat (refine GW.pl rfl rfl ?_))
    refine GW.c2 rfl rfl (by first | exact Or.inl rfl | exact Or.inr (grecv_at (by assumption)) | exact Or.inr (grecv_c (by assumption)) | exact Or.inr (grecv_c (SIs.cls (by assumption))) | exact Or.inr (grecv_at (BSb.at (by assumption)))) (by first | exact Or.inl (by decide) | exact Or.inr (gnewv_at (by assumption))) rfl (G_adGrow (h := h) (a := a) (cap := cap) (xs := xs ++ [some v]) h1 ((gfi_nf (g := gsar g a (ix9 h cap xs.length) (some v)) (F := 101) (n := n) rfl).trans h2) gfi_eq h4 h5 h6 ⟨h7.1, h7.2.1, hc⟩ (by omega) hel hgk hne) ?_
    rintro _ g2 ⟨rfl, a', cap', h', hK, hA, q1, q2, q3, q4, q5⟩
    refine GW.ret rfl rfl ⟨_, rfl, rfl, a', cap', h', ?_, hA, Or.inr q1, q2, by omega, Or.inr ⟨by omega, by omega⟩⟩
    exact (((Kp.ar (S := AdS n a) (Or.inr rfl)).tr (Kp.fi rfl (Or.inl rfl))).trans hK (fun k hk z => Or.inl z)).le (by omega)
  · have hT : (if ix9 h cap xs.length + 1 < cap then ix9 h cap xs.length + 1 else 0) = ix9 h cap (xs.length + 1) := by unfold ix9; split <;> split <;> (try split) <;> omega
    rw [hT]
    have hnh : ix9 h cap (xs.length + 1) ≠ h := by unfold ix9; split <;> omega
    refine GW.br rfl rfl (by first | omega | decide | (constructor <;> first | omega | decide)) (fun h20 => ?_) (fun h20 => by first | (exfalso; omega) | exact absurd h20 (by decide))
    refine GW.ret rfl rfl ⟨_, rfl, rfl, a, cap, h, ?_, ⟨h1, (gfi_nf (g := gsar g a (ix9 h cap xs.length) (some v)) (F := 101) (n := n) rfl).trans h2, by rw [hla]; exact gfi_eq, h4, h5, h6, ⟨h7.1, h7.2.1, by omega⟩, hel, fun j hj hj2 => ?_, hgk, hne⟩, Or.inl rfl, hlt.2.1, Nat.le_refl _, Or.inl rfl⟩
    · exact ((Kp.ar (S := AdS n a) (Or.inr rfl)).tr (Kp.fi rfl (Or.inl rfl))).le (by omega)
    · rw [hla] at hj
      refine gar_at.trans ?_
      rw [if_neg (fun z => by have := ix9_inj h7.2.1 (by omega) (by omega) z; omega)]
      exact h9 j (by omega) hj2
end Ad
