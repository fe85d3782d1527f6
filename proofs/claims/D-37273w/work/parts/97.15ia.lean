set_option maxRecDepth 100000
/-! LINKEDLIST's iterator: add, remove -/
theorem gcan2_at {g : GH} {r : Option Nat} {q c : Nat} (h : GAt g q c) (hc : (c == 0) = false) (hr : gok g r = true) : gcan2 g r (some q) = true := by
  unfold gcan2
  rw [hr, gok_at h hc]
  cases r with
  | none => simp
  | some n => simp [h.2]
section Ia
variable {d : Nat} {g : GH} {it l : Nat} {ns : List Nat} {xs : List (Option Nat)} {k : Nat} {lr : Option Nat}
def ItS (it l : Nat) (ns : List Nat) : Nat → Prop := fun m => m = it ∨ LlS l ns m
theorem it_ne (h : LLs g l ns xs) (h1 : GAt g it 19) : ¬ LlS l ns it := by
  rintro (z | z)
  · have := h1.1; rw [z, h.1.1] at this; cases this
  · obtain ⟨i, hi⟩ := List.mem_iff_getElem?.mp z
    have := (h.2.2.2.2.2.2.1 i it hi).1.1
    rw [h1.1] at this; cases this
theorem G_itAdd (h : LLs g l ns xs) (hi : ITs g it l ns k lr) (hl : ns.length < 1000000) (hk : k ≤ ns.length) {v : Option Nat} (hv : gokO g v = true) (hm : gfi g 102 l < 2147483647) : GMr (d + 3) gk_J35_add [aR it, aQ v] g (fun r g' => r = none ∧ ∃ q, Kp g g' (ItS it l ns) 15 ∧ LLs g' l (insA ns k q) (insA xs k v) ∧ ITs g' it l (insA ns k q) (k + 1) none ∧ gsz g ≤ q ∧ q < gsz g' ∧ gfi g' 102 l = gfi g 102 l + 1) := by
  refine GMr.wf (fun hW => ?_)
  have hm0 := hW.2.1.1 102 l
  have hlt := h.lt hW
  obtain ⟨h1, h2, h3, h4, h5, h6⟩ := hi
  have l1 := h.1
  have hne := it_ne h h1
  have hK0 : Kp g (gsfr g 111 it none) (fun m => m = it) 0 := Kp.fr rfl rfl
  have hil : l ≠ it := fun z => hne (Or.inl z.symm)
  have hL0 : LLs (gsfr g 111 it none) l ns xs := h.kp hK0 hW (hK0.2.2.1 l hlt.1 hil) (fun n hn => hK0.2.2.1 n (hlt.2.1 n hn) (fun z => hne (Or.inr (z ▸ hn))))
  have hit : it < gsz g := hW.lt (by rw [h1.1]; decide)
  have fin : ∀ (g1 : GH), LlQ (gsfr g 111 it none) g1 l ns xs k v → GW (d + 2) gm_J35_add 19 (List.map some [aR it, aQ v] ++ List.replicate (gm_J35_add.fst - [aR it, aQ v].length) none) [] g1 (fun r g' => ∃ w, r = .inl w ∧ w = none ∧ ∃ q, Kp g g' (ItS it l ns) 15 ∧ LLs g' l (insA ns k q) (insA xs k v) ∧ ITs g' it l (insA ns k q) (k + 1) none ∧ gsz g ≤ q ∧ q < gsz g' ∧ gfi g' 102 l = gfi g 102 l + 1) := by
    rintro g1 ⟨q, hK, hL, q1, q2, q3⟩
    refine GW.wf (fun hW1 => ?_)
    have si := hK.2.2.1 it hit hne
    have i1 : GAt g1 it 19 := ⟨si.1.trans h1.1, h1.2⟩
    have i3 : gfi g1 113 it = k := (si.2.2.1 _).trans h3
    have i4 : gfi g1 114 it = gfi g 102 l := (si.2.2.1 _).trans h4
    have q3' : gfi g1 102 l = gfi g 102 l + 1 := q3
    have i115 : gfr g1 115 it = some l := (si.2.2.2.1 115).trans h2
    have i112 : gfr g1 112 it = (insA ns k q)[k + 1]? := by
      rw [insA_get hk, if_neg (by omega), if_neg (by omega)]
      exact (si.2.2.2.1 112).trans h5
    have i111 : gfr g1 111 it = none := (si.2.2.2.1 111).trans gfr_eq
    (repeat (refine GW.pl rfl rfl ?_))
    refine GW.geti (v := (k : Int)) rfl rfl (GHas.at i1 rfl) i3 (fun _ => ?_)
    (repeat (refine GW.pl rfl rfl ?_))
    refine GW.puti rfl rfl i1 rfl ⟨by omega, by omega⟩ ?_
    (repeat (refine GW.pl rfl rfl ?_))
    refine GW.geti (v := gfi g 102 l) rfl rfl (GHas.at i1 rfl) ((gfi_nf (g := g1) (F := 113) (n := it) rfl).trans i4) (fun _ => ?_)
    (repeat (refine GW.pl rfl rfl ?_))
    refine GW.puti rfl rfl i1 rfl ⟨by omega, by omega⟩ ?_
    have hK1 : Kp g1 (gsfi (gsfi g1 113 it (k + 1)) 114 it (gfi g 102 l + 1)) (fun m => m = it) 0 := (Kp.fi (S := fun m => m = it) rfl rfl).tr (Kp.fi rfl rfl)
    have hne1 := it_ne hL i1
    have hlt1 := hL.lt hW1
    refine GW.ret rfl rfl ⟨_, rfl, rfl, q, ?_, hL.kp hK1 hW1 (hK1.2.2.1 l hlt1.1 hil) (fun n hn => hK1.2.2.1 n (hlt1.2.1 n hn) (fun z => hne1 (Or.inr (z ▸ hn)))), ⟨i1, ?_, ?_, ?_, ?_, ?_⟩, q1, q2, ?_⟩
    · exact ((hK0.mono (S' := ItS it l ns) (Nat.le_refl _) (fun _ _ z => Or.inl z)).tr (hK.mono (S' := ItS it l ns) (Nat.le_refl _) (fun _ _ z => Or.inr z))).tr (hK1.mono (S' := ItS it l ns) (Nat.le_refl _) (fun _ _ z => Or.inl z))
    · simp only [gfr_sfr, gfr_sfi, gfi_sfi, gfi_sfr, Nat.reduceEqDiff, false_and, true_and, and_true, reduceIte]
      exact i115
    · simp only [gfr_sfr, gfr_sfi, gfi_sfi, gfi_sfr, Nat.reduceEqDiff, false_and, true_and, and_true, reduceIte]
      rfl
    · simp only [gfr_sfr, gfr_sfi, gfi_sfi, gfi_sfr, Nat.reduceEqDiff, false_and, true_and, and_true, reduceIte]
      exact q3'.symm
    · simp only [gfr_sfr, gfr_sfi, gfi_sfi, gfi_sfr, Nat.reduceEqDiff, false_and, true_and, and_true, reduceIte]
      exact i112
    · simp only [gfr_sfr, gfr_sfi, gfi_sfi, gfi_sfr, Nat.reduceEqDiff, false_and, true_and, and_true, reduceIte]
      exact i111
    · simp only [gfr_sfr, gfr_sfi, gfi_sfi, gfi_sfr, Nat.reduceEqDiff, false_and, true_and, and_true, reduceIte]
      exact q3'
  refine GM.of rfl rfl rfl ?_
  (repeat (refine GW.pl rfl rfl ?_))
  refine GW.c1 rfl rfl (by first | exact Or.inl rfl | exact Or.inr (grecv_at (by assumption)) | exact Or.inr (grecv_c (by assumption)) | exact Or.inr (grecv_c (SIs.cls (by assumption))) | exact Or.inr (grecv_at (BSb.at (by assumption)))) (by first | exact Or.inl (by decide) | exact Or.inr (gnewv_at (by assumption))) rfl (G_itChk h1 h2 h4 l1) ?_; rintro _ _ ⟨rfl, rfl⟩
  (repeat (refine GW.pl rfl rfl ?_))
  refine GW.putr rfl rfl h1 rfl ?_
  (repeat (refine GW.pl rfl rfl ?_))
  refine GW.getr (v := ns[k]?) rfl rfl (GHas.at h1 rfl) ((gfr_nf (g := g) (F := 111) (n := it) rfl).trans h5) ?_
  have h2' : gfr (gsfr g 111 it none) 115 it = some l := (gfr_nf (g := g) (F := 111) (n := it) rfl).trans h2
  by_cases hz : k = ns.length
  · subst hz
    rw [List.getElem?_eq_none (Nat.le_refl _)]
    refine GW.nul rfl rfl rfl ?_
    (repeat (refine GW.pl rfl rfl ?_))
    refine GW.getr (v := some l) rfl rfl (GHas.at h1 rfl) h2' ?_
    (repeat (refine GW.pl rfl rfl ?_))
    refine GW.c2 rfl rfl (by first | exact Or.inl rfl | exact Or.inr (grecv_at (by assumption)) | exact Or.inr (grecv_c (by assumption)) | exact Or.inr (grecv_c (SIs.cls (by assumption))) | exact Or.inr (grecv_at (BSb.at (by assumption)))) (by first | exact Or.inl (by decide) | exact Or.inr (gnewv_at (by assumption))) rfl (G_llLast hL0 (v := v) hv hm hl) ?_
    rintro _ g1 ⟨rfl, hQ⟩
    (iterate 1 (refine GW.pl rfl rfl ?_))
    exact fin g1 hQ
  · obtain ⟨n, hn⟩ := getE (show k < ns.length by omega)
    obtain ⟨b1, -⟩ := h.2.2.2.2.2.2.1 _ n hn
    rw [hn]
    refine GW.nul rfl rfl (gok_at (show GAt (gsfr g 111 it none) n 20 from b1) rfl) ?_
    (repeat (refine GW.pl rfl rfl ?_))
    refine GW.getr (v := some l) rfl rfl (GHas.at h1 rfl) h2' ?_
    (repeat (refine GW.pl rfl rfl ?_))
    refine GW.getr (v := some n) rfl rfl (GHas.at h1 rfl) ((gfr_nf (g := g) (F := 111) (n := it) rfl).trans (h5.trans hn)) ?_
    refine GW.c3 rfl rfl (by first | exact Or.inl rfl | exact Or.inr (grecv_at (by assumption)) | exact Or.inr (grecv_c (by assumption)) | exact Or.inr (grecv_c (SIs.cls (by assumption))) | exact Or.inr (grecv_at (BSb.at (by assumption)))) (by first | exact Or.inl (by decide) | exact Or.inr (gnewv_at (by assumption))) rfl (G_llBef hL0 hn (v := v) hv hm hl) ?_
    rintro _ g1 ⟨rfl, hQ⟩
    exact fin g1 hQ
theorem G_itRem (h : LLs g l ns xs) (hi : ITs g it l ns k lr) (hl : ns.length < 1000000) (hk : 0 < k ∧ k ≤ ns.length) (hlr : lr = ns[k - 1]?) (hm : gfi g 102 l < 2147483647) : GMr (d + 2) gk_J35_remove [aR it] g (fun r g' => r = none ∧ Kp g g' (ItS it l ns) 0 ∧ LLs g' l (delA ns (k - 1)) (delA xs (k - 1)) ∧ ITs g' it l (delA ns (k - 1)) (k - 1) none ∧ gfi g' 102 l = gfi g 102 l + 1) := by
  refine GMr.wf (fun hW => ?_)
  have hm0 := hW.2.1.1 102 l
  have hlt := h.lt hW
  obtain ⟨h1, h2, h3, h4, h5, h6⟩ := hi
  have l1 := h.1
  have hne := it_ne h h1
  have hil : l ≠ it := fun z => hne (Or.inl z.symm)
  have hit : it < gsz g := hW.lt (by rw [h1.1]; decide)
  obtain ⟨n, hn⟩ := getE (show k - 1 < ns.length by omega)
  obtain ⟨b1, b2, b3, b4⟩ := h.2.2.2.2.2.2.1 _ n hn
  rw [hn] at hlr
  subst hlr
  refine GM.of rfl rfl rfl ?_
  (repeat (refine GW.pl rfl rfl ?_))
  refine GW.c1 rfl rfl (by first | exact Or.inl rfl | exact Or.inr (grecv_at (by assumption)) | exact Or.inr (grecv_c (by assumption)) | exact Or.inr (grecv_c (SIs.cls (by assumption))) | exact Or.inr (grecv_at (BSb.at (by assumption)))) (by first | exact Or.inl (by decide) | exact Or.inr (gnewv_at (by assumption))) rfl (G_itChk h1 h2 h4 l1) ?_; rintro _ _ ⟨rfl, rfl⟩
  (repeat (refine GW.pl rfl rfl ?_))
  refine GW.getr (v := some n) rfl rfl (GHas.at h1 rfl) h6 ?_
  refine GW.nul rfl rfl (gok_at b1 rfl) ?_
  (repeat (refine GW.pl rfl rfl ?_))
  refine GW.getr (v := some n) rfl rfl (GHas.at h1 rfl) h6 ?_
  refine GW.getr (v := ns[k - 1 + 1]?) rfl rfl (GHas.at b1 rfl) b3 ?_
  (repeat (refine GW.pl rfl rfl ?_))
  refine GW.getr (v := some l) rfl rfl (GHas.at h1 rfl) h2 ?_
  (repeat (refine GW.pl rfl rfl ?_))
  refine GW.getr (v := some n) rfl rfl (GHas.at h1 rfl) h6 ?_
  refine GW.c2 rfl rfl (by first | exact Or.inl rfl | exact Or.inr (grecv_at (by assumption)) | exact Or.inr (grecv_c (by assumption)) | exact Or.inr (grecv_c (SIs.cls (by assumption))) | exact Or.inr (grecv_at (BSb.at (by assumption)))) (by first | exact Or.inl (by decide) | exact Or.inr (gnewv_at (by assumption))) rfl (G_llUnl h hn hm hl) ?_
  rintro _ g1 ⟨rfl, hK, hL, q3⟩
  refine GW.wf (fun hW1 => ?_)
  have si := hK.2.2.1 it hit hne
  have i1 : GAt g1 it 19 := ⟨si.1.trans h1.1, h1.2⟩
  have i3 : gfi g1 113 it = k := (si.2.2.1 _).trans h3
  have i4 : gfi g1 114 it = gfi g 102 l := (si.2.2.1 _).trans h4
  have i5 : gfr g1 112 it = ns[k]? := (si.2.2.2.1 112).trans h5
  have i6 : gfr g1 111 it = some n := (si.2.2.2.1 111).trans h6
  have i7 : gfr g1 115 it = some l := (si.2.2.2.1 115).trans h2
  have nA : GAt g1 n 20 := hK.at hW b1 rfl
  (repeat (refine GW.pl rfl rfl ?_))
  refine GW.getr (v := ns[k]?) rfl rfl (GHas.at i1 rfl) i5 ?_
  (repeat (refine GW.pl rfl rfl ?_))
  refine GW.getr (v := some n) rfl rfl (GHas.at i1 rfl) i6 ?_
  have hgk : gok g1 ns[k]? = true := by
    cases hz : ns[k]? with
    | none => rfl
    | some m => exact gok_at (hK.at hW (h.2.2.2.2.2.2.1 _ m hz).1 rfl) rfl
  refine GW.ane rfl (gcan2_at nA rfl hgk) (fun _ => ?_) (fun z => ?_)
  · (repeat (refine GW.pl rfl rfl ?_))
    refine GW.geti (v := (k : Int)) rfl rfl (GHas.at i1 rfl) i3 (fun _ => ?_)
    (repeat (refine GW.pl rfl rfl ?_))
    refine GW.puti rfl rfl i1 rfl ⟨by omega, by omega⟩ ?_
    (repeat (refine GW.pl rfl rfl ?_))
    refine GW.putr rfl rfl i1 rfl ?_
    (repeat (refine GW.pl rfl rfl ?_))
    refine GW.geti (v := gfi g 102 l) rfl rfl (GHas.at i1 rfl) ((gfi_nf (g := g1) (F := 113) (n := it) (x := (k : Int) - 1) rfl).trans i4) (fun _ => ?_)
    (repeat (refine GW.pl rfl rfl ?_))
    refine GW.puti rfl rfl i1 rfl ⟨by omega, by omega⟩ ?_
    have hK1 : Kp g1 (gsfi (gsfr (gsfi g1 113 it (k - 1)) 111 it none) 114 it (gfi g 102 l + 1)) (fun m => m = it) 0 := ((Kp.fi (S := fun m => m = it) rfl rfl).tr (Kp.fr rfl rfl)).tr (Kp.fi rfl rfl)
    have hne1 := it_ne hL i1
    have hlt1 := hL.lt hW1
    refine GW.ret rfl rfl ⟨_, rfl, rfl, ?_, hL.kp hK1 hW1 (hK1.2.2.1 l hlt1.1 hil) (fun n hn => hK1.2.2.1 n (hlt1.2.1 n hn) (fun z => hne1 (Or.inr (z ▸ hn)))), ⟨i1, ?_, ?_, ?_, ?_, ?_⟩, ?_⟩
    · exact (hK.mono (S' := ItS it l ns) (Nat.le_refl _) (fun _ _ z => Or.inr z)).tr (hK1.mono (S' := ItS it l ns) (Nat.le_refl _) (fun _ _ z => Or.inl z))
    · simp only [gfr_sfr, gfr_sfi, gfi_sfi, gfi_sfr, Nat.reduceEqDiff, false_and, true_and, and_true, reduceIte]
      exact i7
    · simp only [gfr_sfr, gfr_sfi, gfi_sfi, gfi_sfr, Nat.reduceEqDiff, false_and, true_and, and_true, reduceIte]
      omega
    · simp only [gfr_sfr, gfr_sfi, gfi_sfi, gfi_sfr, Nat.reduceEqDiff, false_and, true_and, and_true, reduceIte]
      exact q3.symm
    · simp only [gfr_sfr, gfr_sfi, gfi_sfi, gfi_sfr, Nat.reduceEqDiff, false_and, true_and, and_true, reduceIte]
      rw [delA_get (by omega), if_neg (by omega), show k - 1 + 1 = k by omega]
      exact i5
    · simp only [gfr_sfr, gfr_sfi, gfi_sfi, gfi_sfr, Nat.reduceEqDiff, false_and, true_and, and_true, reduceIte]
    · simp only [gfr_sfr, gfr_sfi, gfi_sfi, gfi_sfr, Nat.reduceEqDiff, false_and, true_and, and_true, reduceIte]
      exact q3
  · exfalso
    have := nodup_ix h.2.2.2.2.2.1 z hn
    omega
end Ia
