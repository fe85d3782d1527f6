set_option maxRecDepth 100000
/-! LINKEDLIST's iterator: it stands ahead of the k-th; lr is the node it gave last -/
def ITs (g : GH) (it l : Nat) (ns : List Nat) (k : Nat) (lr : Option Nat) : Prop := GAt g it 19 ∧ gfr g 115 it = some l ∧ gfi g 113 it = k ∧ gfi g 114 it = gfi g 102 l ∧ gfr g 112 it = ns[k]? ∧ gfr g 111 it = lr
theorem ITs.at {g : GH} {it l k : Nat} {ns : List Nat} {lr : Option Nat} (h : ITs g it l ns k lr) : GAt g it 19 := h.1
section It
variable {d : Nat} {g : GH} {it l : Nat} {ns : List Nat} {xs : List (Option Nat)} {k : Nat} {lr : Option Nat}
theorem G_llAddAll (h : LLs g l ns xs) {l2 : Nat} {ns2 : List Nat} {ys : List (Option Nat)} (h' : LLs g l2 ns2 ys) (hm : gfi g 102 l < 2147483647) (hl : ns.length < 1000000) (hl2 : ys.length < 60000) : GMr (d + 5) gk_J3_addAll [aR l, aR l2] g (fun r g' => (∃ z : Int, r = vI z ∧ (z = 0 ∨ z = 1)) ∧ ∃ ms, Kp g g' (LlS l ns) (12 + 16 * ys.length) ∧ LLs g' l (ns ++ ms) (xs ++ ys) ∧ (∀ m ∈ ms, gsz g ≤ m) ∧ gfi g 102 l ≤ gfi g' 102 l ∧ gfi g' 102 l ≤ gfi g 102 l + 1 ∧ (gfi g' 102 l = gfi g 102 l → ms = [])) := by
  have h1 := h.1
  have h2 := h.2.1
  rw [h.2.2.2.2.1] at h2
  refine GM.of rfl rfl rfl ?_
  (repeat (first | (refine GW.pl rfl rfl ?_) | (refine GW.geti rfl rfl (by first | exact GHas.at (by assumption) rfl | exact GHas.k (by assumption) rfl rfl) (by first | assumption | rfl) (fun _ => ?_)) | (refine GW.getr rfl rfl (by first | exact GHas.at (by assumption) rfl | exact GHas.k (by assumption) rfl rfl) (by first | assumption | rfl) ?_)))
  refine GW.c3 rfl rfl (by first | exact Or.inl rfl | exact Or.inr (grecv_at (by assumption)) | exact Or.inr (grecv_c (by assumption)) | exact Or.inr (grecv_c (SIs.cls (by assumption))) | exact Or.inr (grecv_at (BSb.at (by assumption)))) (by first | exact Or.inl (by decide) | exact Or.inr (gnewv_at (by assumption))) rfl (G_llAll h h' hm hl hl2) ?_
  rintro _ g1 ⟨⟨z, rfl, hz⟩, hq⟩
  exact GW.ir2 rfl rfl hz ⟨_, rfl, ⟨z, rfl, hz⟩, hq⟩
theorem G_itNew (h : LLs g l ns xs) (hk : k ≤ ns.length) (hl : ns.length < 1000000) : GMr (d + 3) gk_J3_listIterator [aR l, aI k] g (fun r g' => ∃ it, r = vR (some it) ∧ it = gsz g ∧ gsz g' = gsz g + 1 ∧ Kp g g' (fun _ => False) 17 ∧ ITs g' it l ns k none) := by
  refine GMr.wf (fun hW => ?_)
  have hlt := h.lt hW
  have hh := h
  obtain ⟨h1, h2, h3, h4, h5, h6, h7, h8⟩ := h
  have chk : ∀ d, GE (d + 2) gk_J3_checkPositionIndex [aR l, aI k] g none := by
    intro d
    have c1 : ∀ d, GE (d + 1) gk_J3_isPositionIndex [aR l, aI k] g (vI 1) := by
      intro d
      refine GM.of rfl rfl rfl ?_
      (repeat (refine GW.pl rfl rfl ?_))
      refine GW.br rfl rfl (by first | omega | decide | (constructor <;> first | omega | decide)) (fun h10 => by first | (exfalso; omega) | exact absurd h10 (by decide)) (fun h10 => ?_)
      (repeat (first | (refine GW.pl rfl rfl ?_) | (refine GW.geti rfl rfl (by first | exact GHas.at (by assumption) rfl | exact GHas.k (by assumption) rfl rfl) (by first | assumption | rfl) (fun _ => ?_)) | (refine GW.getr rfl rfl (by first | exact GHas.at (by assumption) rfl | exact GHas.k (by assumption) rfl rfl) (by first | assumption | rfl) ?_)))
      refine GW.br rfl rfl (by first | omega | decide | (constructor <;> first | omega | decide)) (fun h10 => by first | (exfalso; omega) | exact absurd h10 (by decide)) (fun h10 => ?_)
      (repeat (refine GW.pl rfl rfl ?_))
      exact GW.ir2 rfl rfl (by decide) ⟨_, rfl, rfl, rfl⟩
    refine GM.of rfl rfl rfl ?_
    (repeat (refine GW.pl rfl rfl ?_))
    refine GW.c2 rfl rfl (by first | exact Or.inl rfl | exact Or.inr (grecv_at (by assumption)) | exact Or.inr (grecv_c (by assumption)) | exact Or.inr (grecv_c (SIs.cls (by assumption))) | exact Or.inr (grecv_at (BSb.at (by assumption)))) (by first | exact Or.inl (by decide) | exact Or.inr (gnewv_at (by assumption))) rfl (c1 d) ?_; rintro _ _ ⟨rfl, rfl⟩
    refine GW.br rfl rfl (by first | omega | decide | (constructor <;> first | omega | decide)) (fun h10 => ?_) (fun h10 => by first | (exfalso; omega) | exact absurd h10 (by decide))
    exact GW.ret rfl rfl ⟨_, rfl, rfl, rfl⟩
  have ini : ∀ (d : Nat) (it : Nat), it = gsz g → GAt (gnew g 19 0 5) it 19 → GMr (d + 2) gk_J35_init [aR it, aR l, aI k] (gnew g 19 0 5) (fun r g' => r = none ∧ gsz g' = gsz g + 1 ∧ Kp g g' (fun _ => False) 17 ∧ ITs g' it l ns k none) := by
    intro d it hit hA
    have hK0 : Kp g (gnew g 19 0 5) (fun _ => False) 17 := Kp.new hW
    have sl := hK0.2.2.1 l hlt.1 (fun z => z)
    have hL : LLs (gnew g 19 0 5) l ns xs := hh.kp hK0 hW sl (fun n hn => hK0.2.2.1 n (hlt.2.1 n hn) (fun z => z))
    have f111 : gfr (gnew g 19 0 5) 111 it = none := gnew_fr hit
    have hsz : gsz (gnew g 19 0 5) = gsz g + 1 := rfl
    have hil : it ≠ l := by have := hlt.1; omega
    generalize gnew g 19 0 5 = g0 at hA hK0 hL f111 hsz ⊢
    have l1 := hL.1
    refine GMr.wf (fun hW0 => ?_)
    refine GM.of rfl rfl rfl ?_
    (repeat (refine GW.pl rfl rfl ?_))
    refine GW.putr rfl rfl hA rfl ?_
    (repeat (refine GW.pl rfl rfl ?_))
    refine GW.oini rfl (And.right (show GAt _ _ _ by assumption)) (Nat.le_of_ble_eq_true rfl) ?_
    (repeat (refine GW.pl rfl rfl ?_))
    refine GW.getr (v := some l) rfl rfl (GHas.at hA rfl) gfr_eq ?_
    refine GW.geti (v := gfi g0 102 l) rfl rfl (GHas.at l1 rfl) rfl (fun hR => ?_)
    refine GW.puti rfl rfl hA rfl hR ?_
    (repeat (refine GW.pl rfl rfl ?_))
    refine GW.geti (v := (ns.length : Int)) rfl rfl (GHas.at l1 rfl) ((gfi_nf (g := gsfr g0 115 it (some l)) (F := 114) (n := it) rfl).trans hL.2.1) (fun hR2 => ?_)
    have fin : ∀ (r : Option Nat), r = ns[k]? → GW (d + 1) gm_J35_init 20 [some (aR it), some (aR l), some (aI k)] [aQ r, aR it] (gsfi (gsfr g0 115 it (some l)) 114 it (gfi g0 102 l)) (fun r g' => ∃ v, r = .inl v ∧ v = none ∧ gsz g' = gsz g + 1 ∧ Kp g g' (fun _ => False) 17 ∧ ITs g' it l ns k none) := by
      rintro _ rfl
      refine GW.putr rfl rfl hA rfl ?_
      (repeat (refine GW.pl rfl rfl ?_))
      refine GW.puti rfl rfl hA rfl ⟨by omega, by omega⟩ ?_
      refine GW.ret rfl rfl ⟨_, rfl, rfl, hsz, ?_, hA, ?_, gfi_eq, ?_, gfr_eq (F := 112) (n := it), ?_⟩
      · exact hK0.trans (S2 := fun k => k = it) ((((Kp.fr (S := fun k => k = it) rfl rfl).tr (Kp.fi rfl rfl)).tr (Kp.fr rfl rfl)).tr (Kp.fi rfl rfl)) (fun k hk z => by omega)
      · simp only [gfr_sfr, gfr_sfi, gfi_sfi, gfi_sfr, Nat.reduceEqDiff, false_and, true_and, and_true, reduceIte]
      · simp only [gfr_sfr, gfr_sfi, gfi_sfi, gfi_sfr, Nat.reduceEqDiff, false_and, true_and, and_true, reduceIte]
      · simp only [gfr_sfr, gfr_sfi, gfi_sfi, gfi_sfr, Nat.reduceEqDiff, false_and, true_and, and_true, reduceIte]
        exact f111
    refine GW.br rfl rfl (by first | omega | decide | (constructor <;> first | omega | decide)) (fun h9 => ?_) (fun h9 => ?_)
    · (iterate 2 (refine GW.pl rfl rfl ?_))
      refine GW.wf (fun hW1 => ?_)
      have hL' : LLs (gsfi (gsfr g0 115 it (some l)) 114 it (gfi g0 102 l)) l ns xs := by
        have hK1 : Kp g0 (gsfi (gsfr g0 115 it (some l)) 114 it (gfi g0 102 l)) (fun k => k = it) 0 := (Kp.fr (S := fun k => k = it) rfl rfl).tr (Kp.fi rfl rfl)
        have hlt0 := hL.lt hW0
        exact hL.kp hK1 hW0 (hK1.2.2.1 l hlt0.1 (fun z => hil z.symm)) (fun n hn => hK1.2.2.1 n (hlt0.2.1 n hn) (fun z => by have := hlt.2.1 n hn; omega))
      refine GW.c2 rfl rfl (by first | exact Or.inl rfl | exact Or.inr (grecv_at (by assumption)) | exact Or.inr (grecv_c (by assumption)) | exact Or.inr (grecv_c (SIs.cls (by assumption))) | exact Or.inr (grecv_at (BSb.at (by assumption)))) (by first | exact Or.inl (by decide) | exact Or.inr (gnewv_at (by assumption))) rfl (G_llNode hL' (show k < ns.length by omega)) ?_; rintro _ _ ⟨rfl, rfl⟩
      exact fin _ rfl
    · (repeat (refine GW.pl rfl rfl ?_))
      exact fin none (List.getElem?_eq_none (by omega)).symm
  refine GM.of rfl rfl rfl ?_
  (repeat (refine GW.pl rfl rfl ?_))
  refine GW.c2 rfl rfl (by first | exact Or.inl rfl | exact Or.inr (grecv_at (by assumption)) | exact Or.inr (grecv_c (by assumption)) | exact Or.inr (grecv_c (SIs.cls (by assumption))) | exact Or.inr (grecv_at (BSb.at (by assumption)))) (by first | exact Or.inl (by decide) | exact Or.inr (gnewv_at (by assumption))) rfl (chk _) ?_; rintro _ _ ⟨rfl, rfl⟩
  refine GW.new (L := 5) (c := 19) rfl rfl rfl (fun it hit hAit => ?_)
  (repeat (refine GW.pl rfl rfl ?_))
  refine GW.c3 rfl rfl (by first | exact Or.inl rfl | exact Or.inr (grecv_at (by assumption)) | exact Or.inr (grecv_c (by assumption)) | exact Or.inr (grecv_c (SIs.cls (by assumption))) | exact Or.inr (grecv_at (BSb.at (by assumption)))) (by first | exact Or.inl (by decide) | exact Or.inr (gnewv_at (by assumption))) rfl (ini d it hit hAit) ?_
  rintro _ g1 ⟨rfl, hq⟩
  (repeat (refine GW.pl rfl rfl ?_))
  exact GW.aret rfl rfl ⟨_, rfl, it, rfl, hit, hq⟩
theorem G_llIt (h : LLs g l ns xs) (hl : ns.length < 1000000) : GMr (d + 4) gk_J1_listIterator [aR l] g (fun r g' => ∃ it, r = vR (some it) ∧ it = gsz g ∧ gsz g' = gsz g + 1 ∧ Kp g g' (fun _ => False) 17 ∧ ITs g' it l ns 0 none) := by
  have h1 := h.1
  refine GM.of rfl rfl rfl ?_
  (repeat (refine GW.pl rfl rfl ?_))
  refine GW.c2 rfl rfl (by first | exact Or.inl rfl | exact Or.inr (grecv_at (by assumption)) | exact Or.inr (grecv_c (by assumption)) | exact Or.inr (grecv_c (SIs.cls (by assumption))) | exact Or.inr (grecv_at (BSb.at (by assumption)))) (by first | exact Or.inl (by decide) | exact Or.inr (gnewv_at (by assumption))) rfl (G_itNew (k := 0) h (Nat.zero_le _) hl) ?_
  rintro _ g1 ⟨it, rfl, hq⟩
  exact GW.aret rfl rfl ⟨_, rfl, it, rfl, hq⟩
theorem G_itChk (h1 : GAt g it 19) (h2 : gfr g 115 it = some l) (h3 : gfi g 114 it = gfi g 102 l) (h4 : GAt g l 18) : GE (d + 1) gk_J35_checkForComodification [aR it] g none := by
  refine GMr.wf (fun hW => ?_)
  have hR := hW.2.1.1 102 l
  refine GM.of rfl rfl rfl ?_
  (repeat (refine GW.pl rfl rfl ?_))
  refine GW.getr (v := some l) rfl rfl (GHas.at h1 rfl) h2 ?_
  refine GW.geti (v := gfi g 102 l) rfl rfl (GHas.at h4 rfl) rfl (fun _ => ?_)
  (repeat (refine GW.pl rfl rfl ?_))
  refine GW.geti (v := gfi g 102 l) rfl rfl (GHas.at h1 rfl) h3 (fun _ => ?_)
  refine GW.br rfl rfl (by first | omega | decide | (constructor <;> first | omega | decide)) (fun h9 => ?_) (fun h9 => by first | (exfalso; omega) | exact absurd h9 (by decide))
  exact GW.ret rfl rfl ⟨_, rfl, rfl, rfl⟩
theorem G_itIdx (h : ITs g it l ns k lr) (hk : k < 1000000) : GE (d + 1) gk_J35_nextIndex [aR it] g (vI k) := by
  obtain ⟨h1, h2, h3, h4, h5, h6⟩ := h
  refine GM.of rfl rfl rfl ?_
  (repeat (first | (refine GW.pl rfl rfl ?_) | (refine GW.geti rfl rfl (by first | exact GHas.at (by assumption) rfl | exact GHas.k (by assumption) rfl rfl) (by first | assumption | rfl) (fun _ => ?_)) | (refine GW.getr rfl rfl (by first | exact GHas.at (by assumption) rfl | exact GHas.k (by assumption) rfl rfl) (by first | assumption | rfl) ?_)))
  exact GW.ir1 rfl rfl ⟨by omega, by omega⟩ ⟨_, rfl, rfl, rfl⟩
theorem G_itHas (h : LLs g l ns xs) (hi : ITs g it l ns k lr) (hl : ns.length < 1000000) (hk : k ≤ ns.length) : GE (d + 1) gk_J35_hasNext [aR it] g (vI (if k < xs.length then 1 else 0)) := by
  obtain ⟨h1, h2, h3, h4, h5, h6⟩ := hi
  have l1 := h.1
  have l2 := h.2.1
  have l3 := h.2.2.2.2.1
  refine GM.of rfl rfl rfl ?_
  (repeat (refine GW.pl rfl rfl ?_))
  refine GW.geti (v := (k : Int)) rfl rfl (GHas.at h1 rfl) h3 (fun _ => ?_)
  (repeat (refine GW.pl rfl rfl ?_))
  refine GW.getr (v := some l) rfl rfl (GHas.at h1 rfl) h2 ?_
  refine GW.geti (v := (ns.length : Int)) rfl rfl (GHas.at l1 rfl) l2 (fun _ => ?_)
  refine GW.br rfl rfl (by first | omega | decide | (constructor <;> first | omega | decide)) (fun h9 => ?_) (fun h9 => ?_)
  · (repeat (refine GW.pl rfl rfl ?_))
    rw [if_neg (by omega)]
    exact GW.ir2 rfl rfl (by decide) ⟨_, rfl, rfl, rfl⟩
  · (repeat (refine GW.pl rfl rfl ?_))
    rw [if_pos (by omega)]
    exact GW.ir2 rfl rfl (by decide) ⟨_, rfl, rfl, rfl⟩
theorem G_itNext (h : LLs g l ns xs) (hi : ITs g it l ns k lr) (hl : ns.length < 1000000) (hk : k < ns.length) : GMr (d + 2) gk_J35_next [aR it] g (fun r g' => r = vR (xs.getD k none) ∧ Kp g g' (fun k => k = it) 0 ∧ LLs g' l ns xs ∧ ITs g' it l ns (k + 1) ns[k]? ∧ gfi g' 102 l = gfi g 102 l) := by
  refine GMr.wf (fun hW => ?_)
  have hlt := h.lt hW
  have hh := h
  have hi' := hi
  obtain ⟨h1, h2, h3, h4, h5, h6⟩ := hi
  have l1 := h.1
  obtain ⟨n, hn⟩ := getE hk
  have hnm := List.mem_of_getElem? hn
  obtain ⟨a1, a2, a3, a4⟩ := h.2.2.2.2.2.2.1 k n hn
  have hil : l ≠ it := fun z => by have := h1.1; rw [← z, l1.1] at this; cases this
  have hin : ∀ m ∈ ns, m ≠ it := by
    intro m hm z
    obtain ⟨i, hi⟩ := List.mem_iff_getElem?.mp hm
    have := (h.2.2.2.2.2.2.1 i m hi).1.1
    rw [z, h1.1] at this; cases this
  refine GM.of rfl rfl rfl ?_
  (repeat (refine GW.pl rfl rfl ?_))
  refine GW.c1 rfl rfl (by first | exact Or.inl rfl | exact Or.inr (grecv_at (by assumption)) | exact Or.inr (grecv_c (by assumption)) | exact Or.inr (grecv_c (SIs.cls (by assumption))) | exact Or.inr (grecv_at (BSb.at (by assumption)))) (by first | exact Or.inl (by decide) | exact Or.inr (gnewv_at (by assumption))) rfl (G_itChk h1 h2 h4 l1) ?_; rintro _ _ ⟨rfl, rfl⟩
  (repeat (refine GW.pl rfl rfl ?_))
  refine GW.c1 rfl rfl (by first | exact Or.inl rfl | exact Or.inr (grecv_at (by assumption)) | exact Or.inr (grecv_c (by assumption)) | exact Or.inr (grecv_c (SIs.cls (by assumption))) | exact Or.inr (grecv_at (BSb.at (by assumption)))) (by first | exact Or.inl (by decide) | exact Or.inr (gnewv_at (by assumption))) rfl (G_itHas hh hi' hl (by omega)) ?_; rintro _ _ ⟨rfl, rfl⟩
  rw [if_pos (show k < xs.length by have := h.2.2.2.2.1; omega)]
  refine GW.br rfl rfl (by first | omega | decide | (constructor <;> first | omega | decide)) (fun h9 => ?_) (fun h9 => by first | (exfalso; omega) | exact absurd h9 (by decide))
  (repeat (refine GW.pl rfl rfl ?_))
  refine GW.getr (v := some n) rfl rfl (GHas.at h1 rfl) (h5.trans hn) ?_
  refine GW.putr rfl rfl h1 rfl ?_
  (repeat (refine GW.pl rfl rfl ?_))
  refine GW.getr (v := some n) rfl rfl (GHas.at h1 rfl) ((gfr_nf (g := g) (F := 111) (n := it) rfl).trans (h5.trans hn)) ?_
  refine GW.getr (v := ns[k + 1]?) rfl rfl (GHas.at a1 rfl) ((gfr_nf (g := g) (F := 111) (n := it) rfl).trans a3) ?_
  refine GW.putr rfl rfl h1 rfl ?_
  (repeat (refine GW.pl rfl rfl ?_))
  refine GW.geti (v := (k : Int)) rfl rfl (GHas.at h1 rfl) h3 (fun _ => ?_)
  (repeat (refine GW.pl rfl rfl ?_))
  refine GW.puti rfl rfl h1 rfl ⟨by omega, by omega⟩ ?_
  (repeat (refine GW.pl rfl rfl ?_))
  refine GW.getr (v := some n) rfl rfl (GHas.at h1 rfl) ((gfr_nf (g := gsfr g 111 it (some n)) (F := 112) (n := it) rfl).trans gfr_eq) ?_
  refine GW.getr (v := xs.getD k none) rfl rfl (GHas.at a1 rfl) ((gfr_nf (g := gsfr g 111 it (some n)) (F := 112) (n := it) rfl).trans ((gfr_nf (g := g) (F := 111) (n := it) rfl).trans a2)) ?_
  have hK : Kp g (gsfi (gsfr (gsfr g 111 it (some n)) 112 it ns[k + 1]?) 113 it (k + 1)) (fun k => k = it) 0 := ((Kp.fr (S := fun k => k = it) rfl rfl).tr (Kp.fr rfl rfl)).tr (Kp.fi rfl rfl)
  refine GW.aret rfl rfl ⟨_, rfl, rfl, hK, hh.kp hK hW (hK.2.2.1 l hlt.1 hil) (fun m hm => hK.2.2.1 m (hlt.2.1 m hm) (hin m hm)), ⟨h1, ?_, ?_, ?_, ?_, ?_⟩, ?_⟩
  · simp only [gfr_sfr, gfr_sfi, gfi_sfi, gfi_sfr, Nat.reduceEqDiff, false_and, true_and, and_true, reduceIte]
    exact h2
  · exact gfi_eq
  · simp only [gfr_sfr, gfr_sfi, gfi_sfi, gfi_sfr, Nat.reduceEqDiff, false_and, true_and, and_true, reduceIte]
    exact h4
  · exact gfr_eq (g := gsfr g 111 it (some n))
  · rw [hn]
    exact (gfr_nf (g := gsfr g 111 it (some n)) (F := 112) (n := it) rfl).trans gfr_eq
  · simp only [gfr_sfr, gfr_sfi, gfi_sfi, gfi_sfr, Nat.reduceEqDiff, false_and, true_and, and_true, reduceIte]
theorem G_itPrev (h : LLs g l ns xs) (hi : ITs g it l ns k lr) (hl : ns.length < 1000000) (hk : 0 < k ∧ k ≤ ns.length) : GMr (d + 2) gk_J35_previous [aR it] g (fun r g' => r = vR (xs.getD (k - 1) none) ∧ Kp g g' (fun k => k = it) 0 ∧ LLs g' l ns xs ∧ ITs g' it l ns (k - 1) ns[k - 1]? ∧ gfi g' 102 l = gfi g 102 l) := by
  refine GMr.wf (fun hW => ?_)
  have hlt := h.lt hW
  have hh := h
  obtain ⟨h1, h2, h3, h4, h5, h6⟩ := hi
  have l1 := h.1
  have l4 := h.2.2.2.1
  obtain ⟨n, hn⟩ := getE (show k - 1 < ns.length by omega)
  obtain ⟨a1, a2, a3, a4⟩ := h.2.2.2.2.2.2.1 _ n hn
  have hil : l ≠ it := fun z => by have := h1.1; rw [← z, l1.1] at this; cases this
  have hin : ∀ m ∈ ns, m ≠ it := by
    intro m hm z
    obtain ⟨i, hi⟩ := List.mem_iff_getElem?.mp hm
    have := (h.2.2.2.2.2.2.1 i m hi).1.1
    rw [z, h1.1] at this; cases this
  have hasP : ∀ d, GE (d + 1) gk_J35_hasPrevious [aR it] g (vI 1) := by
    intro d
    refine GM.of rfl rfl rfl ?_
    (repeat (first | (refine GW.pl rfl rfl ?_) | (refine GW.geti rfl rfl (by first | exact GHas.at (by assumption) rfl | exact GHas.k (by assumption) rfl rfl) (by first | assumption | rfl) (fun _ => ?_)) | (refine GW.getr rfl rfl (by first | exact GHas.at (by assumption) rfl | exact GHas.k (by assumption) rfl rfl) (by first | assumption | rfl) ?_)))
    refine GW.br rfl rfl (by first | omega | decide | (constructor <;> first | omega | decide)) (fun h9 => by first | (exfalso; omega) | exact absurd h9 (by decide)) (fun h9 => ?_)
    (repeat (refine GW.pl rfl rfl ?_))
    exact GW.ir2 rfl rfl (by decide) ⟨_, rfl, rfl, rfl⟩
  have fin : GW (d + 1) gm_J35_previous 21 (List.map some [aR it] ++ List.replicate (gm_J35_previous.fst - [aR it].length) none) [aR n, aR it, aR it] g (fun r g' => ∃ v, r = .inl v ∧ v = vR (xs.getD (k - 1) none) ∧ Kp g g' (fun k => k = it) 0 ∧ LLs g' l ns xs ∧ ITs g' it l ns (k - 1) ns[k - 1]? ∧ gfi g' 102 l = gfi g 102 l) := by
    (repeat (refine GW.pl rfl rfl ?_))
    refine GW.putr rfl rfl h1 rfl ?_
    refine GW.putr rfl rfl h1 rfl ?_
    (repeat (refine GW.pl rfl rfl ?_))
    refine GW.geti (v := (k : Int)) rfl rfl (GHas.at h1 rfl) h3 (fun _ => ?_)
    (repeat (refine GW.pl rfl rfl ?_))
    refine GW.puti rfl rfl h1 rfl ⟨by omega, by omega⟩ ?_
    (repeat (refine GW.pl rfl rfl ?_))
    refine GW.getr (v := some n) rfl rfl (GHas.at h1 rfl) gfr_eq ?_
    refine GW.getr (v := xs.getD (k - 1) none) rfl rfl (GHas.at a1 rfl) ((gfr_nf (g := gsfr g 112 it (some n)) (F := 111) (n := it) rfl).trans ((gfr_nf (g := g) (F := 112) (n := it) rfl).trans a2)) ?_
    have hK : Kp g (gsfi (gsfr (gsfr g 112 it (some n)) 111 it (some n)) 113 it (k - 1)) (fun k => k = it) 0 := ((Kp.fr (S := fun k => k = it) rfl rfl).tr (Kp.fr rfl rfl)).tr (Kp.fi rfl rfl)
    refine GW.aret rfl rfl ⟨_, rfl, rfl, hK, hh.kp hK hW (hK.2.2.1 l hlt.1 hil) (fun m hm => hK.2.2.1 m (hlt.2.1 m hm) (hin m hm)), ⟨h1, ?_, ?_, ?_, ?_, ?_⟩, ?_⟩
    · simp only [gfr_sfr, gfr_sfi, gfi_sfi, gfi_sfr, Nat.reduceEqDiff, false_and, true_and, and_true, reduceIte]
      exact h2
    · rw [show (((k - 1 : Nat)) : Int) = (k : Int) - 1 by omega]; exact gfi_eq
    · simp only [gfr_sfr, gfr_sfi, gfi_sfi, gfi_sfr, Nat.reduceEqDiff, false_and, true_and, and_true, reduceIte]
      exact h4
    · rw [hn]
      exact (gfr_nf (g := gsfr g 112 it (some n)) (F := 111) (n := it) rfl).trans gfr_eq
    · rw [hn]
      exact gfr_eq (g := gsfr g 112 it (some n))
    · simp only [gfr_sfr, gfr_sfi, gfi_sfi, gfi_sfr, Nat.reduceEqDiff, false_and, true_and, and_true, reduceIte]
  refine GM.of rfl rfl rfl ?_
  (repeat (refine GW.pl rfl rfl ?_))
  refine GW.c1 rfl rfl (by first | exact Or.inl rfl | exact Or.inr (grecv_at (by assumption)) | exact Or.inr (grecv_c (by assumption)) | exact Or.inr (grecv_c (SIs.cls (by assumption))) | exact Or.inr (grecv_at (BSb.at (by assumption)))) (by first | exact Or.inl (by decide) | exact Or.inr (gnewv_at (by assumption))) rfl (G_itChk h1 h2 h4 l1) ?_; rintro _ _ ⟨rfl, rfl⟩
  (repeat (refine GW.pl rfl rfl ?_))
  refine GW.c1 rfl rfl (by first | exact Or.inl rfl | exact Or.inr (grecv_at (by assumption)) | exact Or.inr (grecv_c (by assumption)) | exact Or.inr (grecv_c (SIs.cls (by assumption))) | exact Or.inr (grecv_at (BSb.at (by assumption)))) (by first | exact Or.inl (by decide) | exact Or.inr (gnewv_at (by assumption))) rfl (hasP d) ?_; rintro _ _ ⟨rfl, rfl⟩
  refine GW.br rfl rfl (by first | omega | decide | (constructor <;> first | omega | decide)) (fun h9 => ?_) (fun h9 => by first | (exfalso; omega) | exact absurd h9 (by decide))
  (repeat (refine GW.pl rfl rfl ?_))
  refine GW.getr (v := ns[k]?) rfl rfl (GHas.at h1 rfl) h5 ?_
  by_cases hz : k = ns.length
  · rw [List.getElem?_eq_none (by omega)]
    refine GW.nul rfl rfl rfl ?_
    (repeat (refine GW.pl rfl rfl ?_))
    refine GW.getr (v := some l) rfl rfl (GHas.at h1 rfl) h2 ?_
    refine GW.getr (v := some n) rfl rfl (GHas.at l1 rfl) (l4.trans (by unfold pv; rw [if_neg (by omega), ← hz]; exact hn)) ?_
    (iterate 1 (refine GW.pl rfl rfl ?_))
    exact fin
  · obtain ⟨m, hm⟩ := getE (show k < ns.length by omega)
    obtain ⟨b1, b2, b3, b4⟩ := h.2.2.2.2.2.2.1 _ m hm
    rw [hm]
    refine GW.nul rfl rfl (gok_at b1 rfl) ?_
    (repeat (refine GW.pl rfl rfl ?_))
    refine GW.getr (v := some m) rfl rfl (GHas.at h1 rfl) (h5.trans hm) ?_
    refine GW.getr (v := some n) rfl rfl (GHas.at b1 rfl) (b4.trans (by unfold pv; rw [if_neg (by omega)]; exact hn)) ?_
    exact fin
/-- set: the item of the node that it gave last -/
theorem G_itSet (h : LLs g l ns xs) (hi : ITs g it l ns k lr) {j n : Nat} (hn : ns[j]? = some n) (hlr : lr = some n) {v : Option Nat} (hv : gokO g v = true) : GMr (d + 2) gk_J35_set [aR it, aQ v] g (fun r g' => r = none ∧ Kp g g' (LlS l ns) 0 ∧ LLs g' l ns (xs.set j v) ∧ ITs g' it l ns k lr ∧ gfi g' 102 l = gfi g 102 l) := by
  refine GMr.wf (fun hW => ?_)
  have hlt := h.lt hW
  subst hlr
  obtain ⟨h1, h2, h3, h4, h5, h6⟩ := hi
  obtain ⟨l1, l2, l3, l4, l5, l6, l7, l8⟩ := h
  have hnm := List.mem_of_getElem? hn
  have hj := (List.getElem?_eq_some_iff.mp hn).1
  obtain ⟨a1, a2, a3, a4⟩ := l7 j n hn
  have hnl : n ≠ l := fun z => hlt.2.2 (z ▸ hnm)
  have hni : n ≠ it := fun z => by have := a1.1; rw [z, h1.1] at this; cases this
  have gx : ∀ i, (xs.set j v).getD i none = if i = j then v else xs.getD i none := by
    intro i
    rw [getD_q, getD_q, List.getElem?_set]
    by_cases c : i = j
    · subst c; rw [if_pos rfl, if_pos rfl, if_pos (by omega)]; rfl
    · rw [if_neg (fun z => c z.symm), if_neg c]
  refine GM.of rfl rfl rfl ?_
  (repeat (refine GW.pl rfl rfl ?_))
  refine GW.getr (v := some n) rfl rfl (GHas.at h1 rfl) h6 ?_
  refine GW.nul rfl rfl (gok_at a1 rfl) ?_
  (repeat (refine GW.pl rfl rfl ?_))
  refine GW.c1 rfl rfl (by first | exact Or.inl rfl | exact Or.inr (grecv_at (by assumption)) | exact Or.inr (grecv_c (by assumption)) | exact Or.inr (grecv_c (SIs.cls (by assumption))) | exact Or.inr (grecv_at (BSb.at (by assumption)))) (by first | exact Or.inl (by decide) | exact Or.inr (gnewv_at (by assumption))) rfl (G_itChk h1 h2 h4 l1) ?_; rintro _ _ ⟨rfl, rfl⟩
  (repeat (refine GW.pl rfl rfl ?_))
  refine GW.getr (v := some n) rfl rfl (GHas.at h1 rfl) h6 ?_
  (repeat (refine GW.pl rfl rfl ?_))
  refine GW.putr rfl rfl a1 rfl ?_
  refine GW.ret rfl rfl ⟨_, rfl, rfl, Kp.fr rfl (Or.inr hnm), ⟨l1, ?_, ?_, ?_, ?_, l6, fun i m hm => ?_, fun i => ?_⟩, ⟨h1, ?_, ?_, ?_, ?_, ?_⟩, ?_⟩
  · simp only [gfr_sfr, gfr_sfi, gfi_sfi, gfi_sfr, Nat.reduceEqDiff, false_and, true_and, and_true, reduceIte]
    exact l2
  · simp only [gfr_sfr, gfr_sfi, gfi_sfi, gfi_sfr, Nat.reduceEqDiff, false_and, true_and, and_true, reduceIte]
    exact l3
  · simp only [gfr_sfr, gfr_sfi, gfi_sfi, gfi_sfr, Nat.reduceEqDiff, false_and, true_and, and_true, reduceIte]
    exact l4
  · rw [List.length_set]; exact l5
  · obtain ⟨b1, b2, b3, b4⟩ := l7 i m hm
    refine ⟨b1, ?_, ?_, ?_⟩
    · rw [gx]
      by_cases c : i = j
      · have e : m = n := Option.some.inj (hm.symm.trans (c ▸ hn))
        simp only [gfr_sfr, gfr_sfi, gfi_sfi, gfi_sfr, Nat.reduceEqDiff, false_and, true_and, and_true, reduceIte, e, c]
      · have hne : m ≠ n := fun z => c (nodup_ix l6 hm (z ▸ hn))
        simp only [gfr_sfr, gfr_sfi, gfi_sfi, gfi_sfr, Nat.reduceEqDiff, false_and, true_and, and_true, reduceIte, hne, c]
        exact b2
    · simp only [gfr_sfr, gfr_sfi, gfi_sfi, gfi_sfr, Nat.reduceEqDiff, false_and, true_and, and_true, reduceIte]
      exact b3
    · simp only [gfr_sfr, gfr_sfi, gfi_sfi, gfi_sfr, Nat.reduceEqDiff, false_and, true_and, and_true, reduceIte]
      exact b4
  · show gokO g _ = true
    rw [gx]
    split
    · exact hv
    · exact l8 i
  · simp only [gfr_sfr, gfr_sfi, gfi_sfi, gfi_sfr, Nat.reduceEqDiff, false_and, true_and, and_true, reduceIte]
    exact h2
  · simp only [gfr_sfr, gfr_sfi, gfi_sfi, gfi_sfr, Nat.reduceEqDiff, false_and, true_and, and_true, reduceIte]
    exact h3
  · simp only [gfr_sfr, gfr_sfi, gfi_sfi, gfi_sfr, Nat.reduceEqDiff, false_and, true_and, and_true, reduceIte]
    exact h4
  · simp only [gfr_sfr, gfr_sfi, gfi_sfi, gfi_sfr, Nat.reduceEqDiff, false_and, true_and, and_true, reduceIte]
    exact h5
  · simp only [gfr_sfr, gfr_sfi, gfi_sfi, gfi_sfr, Nat.reduceEqDiff, false_and, true_and, and_true, reduceIte]
    exact h6
  · simp only [gfr_sfr, gfr_sfi, gfi_sfi, gfi_sfr, Nat.reduceEqDiff, false_and, true_and, and_true, reduceIte]
end It
