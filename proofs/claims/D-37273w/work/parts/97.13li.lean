set_option maxRecDepth 100000
/-! LINKEDLIST: clear, addAll; its iterator -/
section Li
variable {d : Nat} {g : GH} {l : Nat} {ns : List Nat} {xs : List (Option Nat)}
theorem G_llClr (h : LLs g l ns xs) (hm : gfi g 102 l < 2147483647) : GMr (d + 1) gk_J3_clear [aR l] g (fun r g' => r = none ∧ Kp g g' (LlS l ns) 0 ∧ LLs g' l [] [] ∧ gfi g' 102 l = gfi g 102 l + 1) := by
  refine GMr.wf (fun hW => ?_)
  have hm0 := hW.2.1.1 102 l
  have hlt := h.lt hW
  obtain ⟨h1, h2, h3, h4, h5, h6, h7, h8⟩ := h
  refine GM.of rfl rfl rfl ?_
  (iterate 3 (first | (refine GW.pl rfl rfl ?_) | (refine GW.geti rfl rfl (by first | exact GHas.at (by assumption) rfl | exact GHas.k (by assumption) rfl rfl) (by first | assumption | rfl) (fun _ => ?_)) | (refine GW.getr rfl rfl (by first | exact GHas.at (by assumption) rfl | exact GHas.k (by assumption) rfl rfl) (by first | assumption | rfl) ?_)))
  have loop : ∀ (m k : Nat) (g1 : GH) (e : Option GV), m + k = ns.length → Kp g g1 (LlS l ns) 0 → GAt g1 l 18 → gfi g1 102 l = gfi g 102 l → (∀ (i n : Nat), k ≤ i → ns[i]? = some n → GAt g1 n 20 ∧ gfr g1 117 n = ns[i + 1]?) → GW d gm_J3_clear 3 [some (aR l), some (aQ ns[k]?), e] [] g1 (fun r g' => ∃ v, r = .inl v ∧ v = none ∧ Kp g g' (LlS l ns) 0 ∧ LLs g' l [] [] ∧ gfi g' 102 l = gfi g 102 l + 1) := by
    intro m
    induction m with
    | zero =>
      intro k g1 e hk hK l1 l5 n7
      rw [List.getElem?_eq_none (by omega)]
      (repeat (refine GW.pl rfl rfl ?_))
      refine GW.nul rfl rfl rfl ?_
      (repeat (refine GW.pl rfl rfl ?_))
      refine GW.putr rfl rfl l1 rfl ?_
      refine GW.putr rfl rfl l1 rfl ?_
      (repeat (refine GW.pl rfl rfl ?_))
      refine GW.puti rfl rfl l1 rfl (by decide) ?_
      (repeat (refine GW.pl rfl rfl ?_))
      refine GW.geti (v := gfi g 102 l) rfl rfl (GHas.at l1 rfl) ((gfi_nf (g := g1) (F := 108) (n := l) rfl).trans l5) (fun _ => ?_)
      (repeat (refine GW.pl rfl rfl ?_))
      refine GW.puti rfl rfl l1 rfl ⟨by omega, by omega⟩ ?_
      refine GW.ret rfl rfl ⟨_, rfl, rfl, ?_, ⟨l1, ?_, ?_, ?_, rfl, List.nodup_nil, fun i n hi => (by cases hi), fun i => rfl⟩, gfi_eq⟩
      · exact hK.tr <| (((Kp.fr (S := LlS l ns) rfl (Or.inl rfl)).tr (Kp.fr rfl (Or.inl rfl))).tr (Kp.fi rfl (Or.inl rfl))).tr (Kp.fi rfl (Or.inl rfl))
      · simp only [gfr_sfr, gfr_sfi, gfi_sfi, gfi_sfr, Nat.reduceEqDiff, false_and, true_and, and_true, reduceIte]
        rfl
      · simp only [gfr_sfr, gfr_sfi, gfi_sfi, gfi_sfr, Nat.reduceEqDiff, false_and, true_and, and_true, reduceIte]
        rfl
      · simp only [gfr_sfr, gfr_sfi, gfi_sfi, gfi_sfr, Nat.reduceEqDiff, false_and, true_and, and_true, reduceIte]
        rfl
    | succ m ih =>
      intro k g1 e hk hK l1 l5 n7
      obtain ⟨n, hn⟩ := getE (show k < ns.length by omega)
      have hnm := List.mem_of_getElem? hn
      obtain ⟨a1, a2⟩ := n7 k n (Nat.le_refl _) hn
      rw [hn]
      (repeat (refine GW.pl rfl rfl ?_))
      refine GW.nul rfl rfl (gok_at a1 rfl) ?_
      (iterate 2 (first | (refine GW.pl rfl rfl ?_) | (refine GW.geti rfl rfl (by first | exact GHas.at (by assumption) rfl | exact GHas.k (by assumption) rfl rfl) (by first | assumption | rfl) (fun _ => ?_)) | (refine GW.getr rfl rfl (by first | exact GHas.at (by assumption) rfl | exact GHas.k (by assumption) rfl rfl) (by first | assumption | rfl) ?_)))
      refine GW.str rfl rfl ?_
      (repeat (refine GW.pl rfl rfl ?_))
      refine GW.putr rfl rfl a1 rfl ?_
      (repeat (refine GW.pl rfl rfl ?_))
      refine GW.putr rfl rfl a1 rfl ?_
      (repeat (refine GW.pl rfl rfl ?_))
      refine GW.putr rfl rfl a1 rfl ?_
      (iterate 3 (refine GW.pl rfl rfl ?_))
      refine ih (k + 1) _ _ (by omega) (hK.tr <| ((Kp.fr (S := LlS l ns) rfl (Or.inr hnm)).tr (Kp.fr rfl (Or.inr hnm))).tr (Kp.fr rfl (Or.inr hnm))) l1 l5 (fun i n2 hi hn2 => ?_)
      obtain ⟨b1, b2⟩ := n7 i n2 (by omega) hn2
      have hne : n2 ≠ n := fun z => by have := nodup_ix h6 hn2 (z ▸ hn); omega
      refine ⟨b1, ?_⟩
      simp only [gfr_sfr, gfr_sfi, gfi_sfi, gfi_sfr, Nat.reduceEqDiff, false_and, true_and, and_true, reduceIte, hne]
      exact b2
  rw [← h3]
  have hb := loop ns.length 0 g none rfl Kp.rf h1 rfl (fun i n _ hi => ⟨(h7 i n hi).1, (h7 i n hi).2.2.1⟩)
  rw [← h3] at hb
  exact hb
/-- its items as an array -/
theorem G_llArr (h : LLs g l ns xs) (hl : xs.length < 60000) : GMr (d + 1) gk_J3_toArray [aR l] g (fun r g' => ∃ q, r = vR (some q) ∧ Kp g g' (fun _ => False) (12 + xs.length) ∧ gsz g ≤ q ∧ q < gsz g' ∧ GAt g' q 104 ∧ RIs g' q xs xs.length) := by
  refine GMr.wf (fun hW => ?_)
  have hlt := h.lt hW
  obtain ⟨h1, h2, h3, h4, h5, h6, h7, h8⟩ := h
  refine GM.of rfl rfl rfl ?_
  (repeat (first | (refine GW.pl rfl rfl ?_) | (refine GW.geti rfl rfl (by first | exact GHas.at (by assumption) rfl | exact GHas.k (by assumption) rfl rfl) (by first | assumption | rfl) (fun _ => ?_)) | (refine GW.getr rfl rfl (by first | exact GHas.at (by assumption) rfl | exact GHas.k (by assumption) rfl rfl) (by first | assumption | rfl) ?_)))
  refine GW.arr rfl rfl (by omega) (fun q hq hAq => ?_)
  rw [Int.toNat_natCast, h5] at hAq ⊢
  have sl := gnew_same (g := g) (c := 104) (L := xs.length) (s := xs.length) hlt.1
  have hK0 : Kp g (gnew g 104 xs.length xs.length) (fun _ => False) (12 + xs.length) := Kp.new hW
  have hR0 : RIs (gnew g 104 xs.length xs.length) q [] xs.length := ⟨gnew_len hq, Nat.zero_le _, fun j hj => (by cases hj), fun j => by rw [gnew_ar hq]; rfl⟩
  have hn0 : ∀ (i n : Nat), ns[i]? = some n → GAt (gnew g 104 xs.length xs.length) n 20 ∧ gfr (gnew g 104 xs.length xs.length) 116 n = xs.getD i none ∧ gfr (gnew g 104 xs.length xs.length) 117 n = ns[i + 1]? := by
    intro i n hi
    obtain ⟨b1, b2, b3, b4⟩ := h7 i n hi
    have kn := gnew_same (g := g) (c := 104) (L := xs.length) (s := xs.length) (hlt.2.1 n (List.mem_of_getElem? hi))
    exact ⟨⟨kn.1.trans b1.1, b1.2⟩, (kn.2.2.2.1 _).trans b2, (kn.2.2.2.1 _).trans b3⟩
  have hq2 : q < gsz (gnew g 104 xs.length xs.length) := by show q < gsz g + 1; omega
  have hf0 : gfr (gnew g 104 xs.length xs.length) 109 l = ns[0]? := (sl.2.2.2.1 _).trans h3
  have hl0 : GAt (gnew g 104 xs.length xs.length) l 18 := ⟨sl.1.trans h1.1, h1.2⟩
  generalize gnew g 104 xs.length xs.length = g0 at hAq hK0 hR0 hn0 hq2 hf0 hl0 ⊢
  have loop : ∀ (m k : Nat) (g1 : GH), m + k = xs.length → Kp g g1 (fun _ => False) (12 + xs.length) → q < gsz g1 → GAt g1 q 104 → RIs g1 q (xs.take k) xs.length → (∀ (i n : Nat), ns[i]? = some n → GAt g1 n 20 ∧ gfr g1 116 n = xs.getD i none ∧ gfr g1 117 n = ns[i + 1]?) → GW d gm_J3_toArray 9 [some (aR l), some (aR q), some (aI k), some (aQ ns[k]?)] [] g1 (fun r g' => ∃ v, r = .inl v ∧ ∃ q, v = vR (some q) ∧ Kp g g' (fun _ => False) (12 + xs.length) ∧ gsz g ≤ q ∧ q < gsz g' ∧ GAt g' q 104 ∧ RIs g' q xs xs.length) := by
    intro m
    induction m with
    | zero =>
      intro k g1 hk p1 p2 p3 p4 p5
      rw [List.getElem?_eq_none (by omega)]
      (repeat (refine GW.pl rfl rfl ?_))
      refine GW.nul rfl rfl rfl ?_
      (repeat (refine GW.pl rfl rfl ?_))
      rw [List.take_of_length_le (by omega)] at p4
      exact GW.aret rfl rfl ⟨_, rfl, q, rfl, p1, by omega, p2, p3, p4⟩
    | succ m ih =>
      intro k g1 hk p1 p2 p3 p4 p5
      obtain ⟨n, hn⟩ := getE (show k < ns.length by omega)
      obtain ⟨b1, b2, b3⟩ := p5 k n hn
      have hkl : (xs.take k).length = k := by rw [List.length_take]; omega
      rw [hn]
      (repeat (refine GW.pl rfl rfl ?_))
      refine GW.nul rfl rfl (gok_at b1 rfl) ?_
      (repeat (first | (refine GW.pl rfl rfl ?_) | (refine GW.geti rfl rfl (by first | exact GHas.at (by assumption) rfl | exact GHas.k (by assumption) rfl rfl) (by first | assumption | rfl) (fun _ => ?_)) | (refine GW.getr rfl rfl (by first | exact GHas.at (by assumption) rfl | exact GHas.k (by assumption) rfl rfl) (by first | assumption | rfl) ?_)))
      have hv := gokO.kp p1 hW (h8 k)
      refine GW.aast rfl p3 (by decide) p4.1 (by omega) (gput_O hv) ?_
      rw [Int.toNat_natCast]
      (iterate 2 (first | (refine GW.pl rfl rfl ?_) | (refine GW.geti rfl rfl (by first | exact GHas.at (by assumption) rfl | exact GHas.k (by assumption) rfl rfl) (by first | assumption | rfl) (fun _ => ?_)) | (refine GW.getr rfl rfl (by first | exact GHas.at (by assumption) rfl | exact GHas.k (by assumption) rfl rfl) (by first | assumption | rfl) ?_)))
      (iterate 2 (refine GW.pl rfl rfl ?_))
      have hR := p4.snoc (v := xs.getD k none) hv (by omega)
      rw [hkl] at hR
      have e : xs.take k ++ [xs.getD k none] = xs.take (k + 1) := by
        rw [List.take_add_one, List.getElem?_eq_getElem (show k < xs.length by omega), List.getD_eq_getElem?_getD, List.getElem?_eq_getElem (show k < xs.length by omega)]; rfl
      rw [e] at hR
      exact ih (k + 1) _ (by omega) (p1.trans (S2 := fun k => k = q) (Kp.ar rfl) (fun k hk z => by omega)) p2 p3 hR p5
  (iterate 4 (refine GW.pl rfl rfl ?_))
  refine GW.getr (v := ns[0]?) rfl rfl (GHas.at hl0 rfl) hf0 ?_
  (iterate 1 (refine GW.pl rfl rfl ?_))
  exact loop xs.length 0 g0 (by omega) hK0 hq2 hAq hR0 hn0
/-- a list goes behind all -/
theorem G_llAll (h : LLs g l ns xs) {l2 : Nat} {ns2 : List Nat} {ys : List (Option Nat)} (h' : LLs g l2 ns2 ys) (hm : gfi g 102 l < 2147483647) (hl : ns.length < 1000000) (hl2 : ys.length < 60000) : GMr (d + 4) gk_J3_addAll_2 [aR l, aI xs.length, aR l2] g (fun r g' => (∃ z : Int, r = vI z ∧ (z = 0 ∨ z = 1)) ∧ ∃ ms, Kp g g' (LlS l ns) (12 + 16 * ys.length) ∧ LLs g' l (ns ++ ms) (xs ++ ys) ∧ (∀ m ∈ ms, gsz g ≤ m) ∧ gfi g 102 l ≤ gfi g' 102 l ∧ gfi g' 102 l ≤ gfi g 102 l + 1 ∧ (gfi g' 102 l = gfi g 102 l → ms = [])) := by
  refine GMr.wf (fun hW => ?_)
  have hm0 := hW.2.1.1 102 l
  have hms := hW.2.1.1 108 l
  have hlt := h.lt hW
  have hh := h
  have hA2 := h'.1
  obtain ⟨h1, h2, h3, h4, h5, h6, h7, h8⟩ := h
  rw [h2] at hms
  have chk : ∀ d, GE (d + 2) gk_J3_checkPositionIndex [aR l, aI xs.length] g none := by
    intro d
    have c1 : ∀ d, GE (d + 1) gk_J3_isPositionIndex [aR l, aI xs.length] g (vI 1) := by
      intro d
      refine GM.of rfl rfl rfl ?_
      (repeat (refine GW.pl rfl rfl ?_))
      refine GW.br rfl rfl (by first | omega | decide | (constructor <;> first | omega | decide)) (fun h10 => by first | (exfalso; omega) | exact absurd h10 (by decide)) (fun h10 => ?_)
      (repeat (first | (refine GW.pl rfl rfl ?_) | (refine GW.geti rfl rfl (by first | exact GHas.at (by assumption) rfl | exact GHas.k (by assumption) rfl rfl) (by first | assumption | rfl) (fun _ => ?_)) | (refine GW.getr rfl rfl (by first | exact GHas.at (by assumption) rfl | exact GHas.k (by assumption) rfl rfl) (by first | assumption | rfl) ?_)))
      refine GW.br rfl rfl (by first | omega | decide | (constructor <;> first | omega | decide)) (fun h10 => by first | (exfalso; omega) | exact absurd h10 (by decide)) (fun h10 => ?_)
      (repeat (refine GW.pl rfl rfl ?_))
      exact GW.ir2 rfl rfl (by decide) ⟨_, rfl, rfl, rfl⟩
    refine GM.of rfl rfl rfl ?_
    (repeat (refine GW.pl rfl rfl ?_))
    refine GW.c2 rfl rfl (by first | exact Or.inl rfl | exact Or.inr (grecv_at (by assumption)) | exact Or.inr (grecv_c (by assumption)) | exact Or.inr (grecv_c (SIs.cls (by assumption))) | exact Or.inr (grecv_at (BSb.at (by assumption)))) (by first | exact Or.inl (by decide) | exact Or.inr (gnewv_at (by assumption))) rfl (c1 d) ?_; rintro _ _ ⟨rfl, rfl⟩
    refine GW.br rfl rfl (by first | omega | decide | (constructor <;> first | omega | decide)) (fun h10 => ?_) (fun h10 => by first | (exfalso; omega) | exact absurd h10 (by decide))
    exact GW.ret rfl rfl ⟨_, rfl, rfl, rfl⟩
  refine GM.of rfl rfl rfl ?_
  (repeat (refine GW.pl rfl rfl ?_))
  refine GW.c2 rfl rfl (by first | exact Or.inl rfl | exact Or.inr (grecv_at (by assumption)) | exact Or.inr (grecv_c (by assumption)) | exact Or.inr (grecv_c (SIs.cls (by assumption))) | exact Or.inr (grecv_at (BSb.at (by assumption)))) (by first | exact Or.inl (by decide) | exact Or.inr (gnewv_at (by assumption))) rfl (chk _) ?_; rintro _ _ ⟨rfl, rfl⟩
  (repeat (refine GW.pl rfl rfl ?_))
  refine GW.c1 rfl rfl (by first | exact Or.inl rfl | exact Or.inr (grecv_at (by assumption)) | exact Or.inr (grecv_c (by assumption)) | exact Or.inr (grecv_c (SIs.cls (by assumption))) | exact Or.inr (grecv_at (BSb.at (by assumption)))) (by first | exact Or.inl (by decide) | exact Or.inr (gnewv_at (by assumption))) rfl (G_llArr h' hl2) ?_
  rintro _ g1 ⟨q, rfl, hK, q1, q2, q3, q4⟩
  refine GW.wf (fun hW1 => ?_)
  (repeat (refine GW.pl rfl rfl ?_))
  refine GW.alen rfl q3.1 rfl q4.1 (fun _ => ?_)
  (repeat (refine GW.pl rfl rfl ?_))
  have sl := hK.2.2.1 l hlt.1 (fun z => z)
  have hL1 : LLs g1 l ns xs := hh.kp hK hW sl (fun n hn => hK.2.2.1 n (hlt.2.1 n hn) (fun z => z))
  have l5 : gfi g1 102 l = gfi g 102 l := sl.2.2.1 _
  by_cases hy : ys.length = 0
  · have hys : ys = [] := List.length_eq_zero_iff.mp hy
    subst hys
    refine GW.br rfl rfl (by first | omega | decide | (constructor <;> first | omega | decide)) (fun h10 => by first | (exfalso; omega) | exact absurd h10 (by decide)) (fun h10 => ?_)
    (repeat (refine GW.pl rfl rfl ?_))
    refine GW.ir2 rfl rfl (by decide) ⟨_, rfl, ⟨_, rfl, Or.inl rfl⟩, [], hK.mono (by simp) (fun _ _ z => z.elim), ?_, fun m hm => (by cases hm), by omega, by omega, fun _ => rfl⟩
    rw [List.append_nil, List.append_nil]; exact hL1
  refine GW.br rfl rfl (by first | omega | decide | (constructor <;> first | omega | decide)) (fun h10 => ?_) (fun h10 => by first | (exfalso; omega) | exact absurd h10 (by decide))
  (repeat (refine GW.pl rfl rfl ?_))
  refine GW.geti (v := (xs.length : Int)) rfl rfl (GHas.at hL1.1 rfl) (hL1.2.1.trans (by rw [h5])) (fun _ => ?_)
  refine GW.br rfl rfl (by first | omega | decide | (constructor <;> first | omega | decide)) (fun h10 => by first | (exfalso; omega) | exact absurd h10 (by decide)) (fun h10 => ?_)
  (repeat (refine GW.pl rfl rfl ?_))
  refine GW.getr (v := pv ns ns.length) rfl rfl (GHas.at hL1.1 rfl) hL1.2.2.2.1 ?_
  (iterate 5 (refine GW.pl rfl rfl ?_))
  refine GW.alen rfl q3.1 rfl q4.1 (fun _ => ?_)
  (iterate 3 (refine GW.pl rfl rfl ?_))
  have loop : ∀ (m k : Nat) (g2 : GH) (ms : List Nat) (e1 e2 e3 : Option GV), m + k = ys.length → ms.length = k → Kp g g2 (LlS l ns) (12 + ys.length + 15 * k) → LLs (gsfi (gsfr g2 110 l (pv (ns ++ ms) (ns ++ ms).length)) 108 l (ns ++ ms).length) l (ns ++ ms) (xs ++ ys.take k) → (∀ m ∈ ms, gsz g ≤ m) → gfi g2 102 l = gfi g 102 l → gfi g2 108 l = ns.length → q < gsz g2 → GAt g2 q 104 → RIs g2 q ys ys.length →
      GW (d + 3) gm_J3_addAll_2 37 [some (aR l), some (aI xs.length), some (aR l2), some (aR q), some (aI ys.length), some (aQ (pv (ns ++ ms) (ns ++ ms).length)), some (aQ none), some (aR q), some (aI ys.length), some (aI k), e1, e2, e3] [] g2 (fun r g' => ∃ v, r = .inl v ∧ (∃ z : Int, v = vI z ∧ (z = 0 ∨ z = 1)) ∧ ∃ ms, Kp g g' (LlS l ns) (12 + 16 * ys.length) ∧ LLs g' l (ns ++ ms) (xs ++ ys) ∧ (∀ m ∈ ms, gsz g ≤ m) ∧ gfi g 102 l ≤ gfi g' 102 l ∧ gfi g' 102 l ≤ gfi g 102 l + 1 ∧ (gfi g' 102 l = gfi g 102 l → ms = [])) := by
    intro m
    induction m with
    | zero =>
      intro k g2 ms e1 e2 e3 hk hmk hK2 hV hms5 l5 l6 r1 r2 r3
      have l1 : GAt g2 l 18 := hV.1
      (repeat (refine GW.pl rfl rfl ?_))
      refine GW.br rfl rfl (by first | omega | decide | (constructor <;> first | omega | decide)) (fun h11 => ?_) (fun h11 => by first | (exfalso; omega) | exact absurd h11 (by decide))
      (repeat (refine GW.pl rfl rfl ?_))
      refine GW.nul rfl rfl rfl ?_
      (repeat (refine GW.pl rfl rfl ?_))
      refine GW.putr rfl rfl l1 rfl ?_
      (repeat (refine GW.pl rfl rfl ?_))
      refine GW.geti (v := (ns.length : Int)) rfl rfl (GHas.at l1 rfl) l6 (fun _ => ?_)
      (repeat (refine GW.pl rfl rfl ?_))
      refine GW.puti rfl rfl l1 rfl ⟨by omega, by omega⟩ ?_
      (repeat (refine GW.pl rfl rfl ?_))
      refine GW.geti (v := gfi g 102 l) rfl rfl (GHas.at l1 rfl) ((gfi_nf (g := g2) (F := 108) (n := l) rfl).trans l5) (fun _ => ?_)
      (repeat (refine GW.pl rfl rfl ?_))
      refine GW.puti rfl rfl l1 rfl ⟨by omega, by omega⟩ ?_
      (repeat (refine GW.pl rfl rfl ?_))
      rw [List.take_of_length_le (by omega)] at hV
      have ee : (ns.length : Int) + ys.length = ((ns ++ ms).length : Nat) := by rw [List.length_append]; omega
      rw [ee]
      refine GW.ir2 rfl rfl (by decide) ⟨_, rfl, ⟨_, rfl, Or.inr rfl⟩, ms, ?_, ?_, hms5, by rw [gfi_eq]; omega, by rw [gfi_eq]; omega, fun z => absurd z (by rw [gfi_eq]; omega)⟩
      · exact (hK2.tr <| ((Kp.fr (S := LlS l ns) rfl (Or.inl rfl)).tr (Kp.fi rfl (Or.inl rfl))).tr (Kp.fi rfl (Or.inl rfl))).le (by omega)
      · obtain ⟨c1, c2, c3, c4, c5, c6, c7, c8⟩ := hV
        exact ⟨c1, (gfi_nf (F := 102) (n := l) rfl).trans c2, c3, c4, c5, c6, c7, c8⟩
    | succ m ih =>
      intro k g2 ms e1 e2 e3 hk hmk hK2 hV hms5 l5 l6 r1 r2 r3
      refine GW.wf (fun hW2 => ?_)
      obtain ⟨c1, c2, c3, c4, c5, c6, c7, c8⟩ := id hV
      have hltV : l < gsz g2 ∧ (∀ n ∈ ns ++ ms, n < gsz g2) ∧ l ∉ ns ++ ms := by
        refine ⟨hW2.lt (by rw [show gcls g2 l = 18 from c1.1]; decide), fun n hn => ?_, fun hn => ?_⟩
        · obtain ⟨i, hi⟩ := List.mem_iff_getElem?.mp hn
          exact hW2.lt (by rw [show gcls g2 n = 20 from (c7 i n hi).1.1]; decide)
        · obtain ⟨i, hi⟩ := List.mem_iff_getElem?.mp hn
          have h20 : gcls g2 l = 20 := (c7 i l hi).1.1
          rw [show gcls g2 l = 18 from c1.1] at h20; cases h20
      have n7 : ∀ (i n : Nat), (ns ++ ms)[i]? = some n → GAt g2 n 20 ∧ gfr g2 116 n = (xs ++ ys.take k).getD i none ∧ gfr g2 117 n = (ns ++ ms)[i + 1]? ∧ gfr g2 118 n = pv (ns ++ ms) i := c7
      have cf : gfr g2 109 l = (ns ++ ms)[0]? := c3
      have hv := r3.get (show k < ys.length by omega)
      have hl3 : (ns ++ ms).length = (xs ++ ys.take k).length := c5
      (repeat (refine GW.pl rfl rfl ?_))
      refine GW.br rfl rfl (by first | omega | decide | (constructor <;> first | omega | decide)) (fun h11 => by first | (exfalso; omega) | exact absurd h11 (by decide)) (fun h11 => ?_)
      (repeat (refine GW.pl rfl rfl ?_))
      refine GW.aald (v := ys.getD k none) rfl r2 (by decide) r3.1 (by omega) (r3.2.2.1 k (by omega)) ?_
      refine GW.str rfl rfl ?_
      (iterate 1 (refine GW.pl rfl rfl ?_))
      refine GW.str rfl rfl ?_
      refine GW.new (L := 3) (c := 20) rfl rfl rfl (fun nd hnd hAnd => ?_)
      (repeat (refine GW.pl rfl rfl ?_))
      refine GW.c4 rfl rfl (by first | exact Or.inl rfl | exact Or.inr (grecv_at (by assumption)) | exact Or.inr (grecv_c (by assumption)) | exact Or.inr (grecv_c (SIs.cls (by assumption))) | exact Or.inr (grecv_at (BSb.at (by assumption)))) (by first | exact Or.inl (by decide) | exact Or.inr (gnewv_at (by assumption))) rfl (G_node hW2 hnd hAnd (pv (ns ++ ms) (ns ++ ms).length) (ys.getD k none) none) ?_
      rintro _ g3 ⟨rfl, hK3, t1, t2, t3, t4, t5⟩
      have hqn : nd ∉ ns ++ ms := fun z => by have := hltV.2.1 nd z; omega
      have sl3 := hK3.2.2.1 l hltV.1 (fun z => z)
      have l1 : GAt g3 l 18 := ⟨sl3.1.trans c1.1, c1.2⟩
      have n8 : ∀ (i n : Nat), (ns ++ ms)[i]? = some n → GAt g3 n 20 ∧ gfr g3 116 n = (xs ++ ys.take k).getD i none ∧ gfr g3 117 n = (ns ++ ms)[i + 1]? ∧ gfr g3 118 n = pv (ns ++ ms) i := by
        intro i n hi
        obtain ⟨b1, b2, b3, b4⟩ := n7 i n hi
        have kn := hK3.2.2.1 n (hltV.2.1 n (List.mem_of_getElem? hi)) (fun z => z)
        exact ⟨⟨kn.1.trans b1.1, b1.2⟩, (kn.2.2.2.1 _).trans b2, (kn.2.2.2.1 _).trans b3, (kn.2.2.2.1 _).trans b4⟩
      have m5 : gfi g3 102 l = gfi g 102 l := (sl3.2.2.1 _).trans l5
      have m6 : gfi g3 108 l = ns.length := (sl3.2.2.1 _).trans l6
      have cf3 : gfr g3 109 l = (ns ++ ms)[0]? := (sl3.2.2.2.1 _).trans cf
      have sq := hK3.2.2.1 q r1 (fun z => z)
      have rA : GAt g3 q 104 := ⟨sq.1.trans r2.1, r2.2⟩
      have rR : RIs g3 q ys ys.length := r3.kp hK3 hW2 sq
      have r1' : q < gsz g3 := Nat.lt_of_lt_of_le r1 hK3.1
      have hK4 : Kp g g3 (LlS l ns) (12 + ys.length + 15 * k + 15) := hK2.trans hK3 (fun _ _ z => z.elim)
      have hnd2 : gsz g ≤ nd := by have := hK2.1; omega
      have ems : ns ++ (ms ++ [nd]) = insA (ns ++ ms) (ns ++ ms).length nd := by
        unfold insA; rw [List.take_length, List.drop_length, List.append_assoc]
      have exs : xs ++ ys.take (k + 1) = insA (xs ++ ys.take k) (ns ++ ms).length (ys.getD k none) := by
        rw [hl3]; unfold insA
        rw [List.take_length, List.drop_length, List.append_assoc, List.take_add_one, List.getElem?_eq_getElem (show k < ys.length by omega), List.getD_eq_getElem?_getD, List.getElem?_eq_getElem (show k < ys.length by omega)]; rfl
      have epv : pv (ns ++ (ms ++ [nd])) (ns ++ (ms ++ [nd])).length = some nd := by
        unfold pv
        rw [← List.append_assoc, List.length_append]
        show (if (ns ++ ms).length + 1 = 0 then none else ((ns ++ ms) ++ [nd])[(ns ++ ms).length + 1 - 1]?) = some nd
        rw [if_neg (Nat.succ_ne_zero _), Nat.add_sub_cancel, List.getElem?_append_right (Nat.le_refl _), Nat.sub_self]; rfl
      have hms6 : ∀ m ∈ ms ++ [nd], gsz g ≤ m := by
        intro m hm
        rcases List.mem_append.mp hm with hm | hm
        · exact hms5 m hm
        · rw [List.mem_singleton] at hm; omega
      have hlen : ((ns ++ (ms ++ [nd])).length : Int) = (ns ++ ms).length + 1 := by rw [← List.append_assoc, List.length_append]; rfl
      refine GW.str rfl rfl ?_
      (repeat (refine GW.pl rfl rfl ?_))
      by_cases hz : (ns ++ ms).length = 0
      · have hpv : pv (ns ++ ms) (ns ++ ms).length = none := if_pos hz
        rw [hpv] at t4 ⊢
        refine GW.nul rfl rfl rfl ?_
        (repeat (refine GW.pl rfl rfl ?_))
        refine GW.putr rfl rfl l1 rfl ?_
        (iterate 5 (refine GW.pl rfl rfl ?_))
        have hb := ih (k + 1) (gsfr g3 109 l (some nd)) (ms ++ [nd]) (some (aQ (ys.getD k none))) (some (aQ (ys.getD k none))) (some (aR nd)) (by omega) (by rw [List.length_append, hmk]; rfl) ((hK4.tr (Kp.fr rfl (Or.inl rfl))).le (by omega)) ?_ hms6 m5 m6 r1' rA rR
        · rw [epv] at hb
          exact hb
        · rw [epv, hlen, ems, exs]
          refine hV.ins (Nat.le_refl _) hqn l1 gfi_eq ?_ ?_ ⟨t1, ?_, ?_, ?_⟩ (fun i n hi => ?_) (fun i => gokO.kp hK3 hW2 (c8 i)) (gokO.kp hK3 hW2 hv)
          · simp only [gfr_sfr, gfr_sfi, gfi_sfi, gfi_sfr, Nat.reduceEqDiff, false_and, true_and, and_true, reduceIte, hz]
          · simp only [gfr_sfr, gfr_sfi, gfi_sfi, gfi_sfr, Nat.reduceEqDiff, false_and, true_and, and_true, reduceIte]
          · simp only [gfr_sfr, gfr_sfi, gfi_sfi, gfi_sfr, Nat.reduceEqDiff, false_and, true_and, and_true, reduceIte]
            exact t2
          · simp only [gfr_sfr, gfr_sfi, gfi_sfi, gfi_sfr, Nat.reduceEqDiff, false_and, true_and, and_true, reduceIte]
            rw [t3, List.getElem?_eq_none (Nat.le_refl _)]
          · simp only [gfr_sfr, gfr_sfi, gfi_sfi, gfi_sfr, Nat.reduceEqDiff, false_and, true_and, and_true, reduceIte]
            rw [t4, hpv]
          · have := (List.getElem?_eq_some_iff.mp hi).1
            omega
      · obtain ⟨p, hp⟩ := getE (show (ns ++ ms).length - 1 < (ns ++ ms).length by omega)
        have hpv : pv (ns ++ ms) (ns ++ ms).length = some p := (if_neg hz).trans hp
        have hpm := List.mem_of_getElem? hp
        obtain ⟨p1, p2, p3, p4⟩ := n8 _ p hp
        have hqp : nd ≠ p := fun z => hqn (z ▸ hpm)
        rw [hpv] at t4 ⊢
        refine GW.nul rfl rfl (gok_at p1 rfl) ?_
        (repeat (refine GW.pl rfl rfl ?_))
        refine GW.putr rfl rfl p1 rfl ?_
        (iterate 4 (refine GW.pl rfl rfl ?_))
        have hS : LlS l ns p ∨ gsz g ≤ p := by
          rcases List.mem_append.mp hpm with z | z
          · exact Or.inl (Or.inr z)
          · exact Or.inr (hms5 p z)
        have hK5 : Kp g (gsfr g3 117 p (some nd)) (LlS l ns) (12 + ys.length + 15 * k + 15) := hK4.trans (S2 := fun k => k = p) (Kp.fr rfl rfl) (fun k hk z => by rcases hS with y | y; exact z ▸ y; exact absurd z (by omega))
        have hb := ih (k + 1) (gsfr g3 117 p (some nd)) (ms ++ [nd]) (some (aQ (ys.getD k none))) (some (aQ (ys.getD k none))) (some (aR nd)) (by omega) (by rw [List.length_append, hmk]; rfl) (hK5.le (by omega)) ?_ hms6 m5 m6 r1' rA rR
        · rw [epv] at hb
          exact hb
        · rw [epv, hlen, ems, exs]
          refine hV.ins (Nat.le_refl _) hqn l1 gfi_eq ?_ ?_ ⟨t1, ?_, ?_, ?_⟩ (fun i n hi => ?_) (fun i => gokO.kp hK3 hW2 (c8 i)) (gokO.kp hK3 hW2 hv)
          · simp only [gfr_sfr, gfr_sfi, gfi_sfi, gfi_sfr, Nat.reduceEqDiff, false_and, true_and, and_true, reduceIte, hz]
            exact cf3
          · simp only [gfr_sfr, gfr_sfi, gfi_sfi, gfi_sfr, Nat.reduceEqDiff, false_and, true_and, and_true, reduceIte]
          · simp only [gfr_sfr, gfr_sfi, gfi_sfi, gfi_sfr, Nat.reduceEqDiff, false_and, true_and, and_true, reduceIte]
            exact t2
          · simp only [gfr_sfr, gfr_sfi, gfi_sfi, gfi_sfr, Nat.reduceEqDiff, false_and, true_and, and_true, reduceIte, hqp]
            rw [t3, List.getElem?_eq_none (Nat.le_refl _)]
          · simp only [gfr_sfr, gfr_sfi, gfi_sfi, gfi_sfr, Nat.reduceEqDiff, false_and, true_and, and_true, reduceIte]
            rw [t4, hpv]
          · have hil := (List.getElem?_eq_some_iff.mp hi).1
            obtain ⟨b1, b2, b3, b4⟩ := n8 i n hi
            refine ⟨b1, ?_, ?_, ?_⟩
            · simp only [gfr_sfr, gfr_sfi, gfi_sfi, gfi_sfr, Nat.reduceEqDiff, false_and, true_and, and_true, reduceIte]
              exact b2
            · by_cases c : i + 1 = (ns ++ ms).length
              · have e : n = p := Option.some.inj (hi.symm.trans ((show i = (ns ++ ms).length - 1 by omega) ▸ hp))
                simp only [gfr_sfr, gfr_sfi, gfi_sfi, gfi_sfr, Nat.reduceEqDiff, false_and, true_and, and_true, reduceIte, e, c]
              · have hne2 : n ≠ p := fun z => c (by have := nodup_ix c6 hi (z ▸ hp); omega)
                simp only [gfr_sfr, gfr_sfi, gfi_sfi, gfi_sfr, Nat.reduceEqDiff, false_and, true_and, and_true, reduceIte, hne2, c]
                exact b3
            · simp only [gfr_sfr, gfr_sfi, gfi_sfi, gfi_sfr, Nat.reduceEqDiff, false_and, true_and, and_true, reduceIte]
              rw [if_neg (by omega)]; exact b4
  have hb := loop ys.length 0 g1 [] none none none (by omega) rfl (hK.mono (by omega) (fun _ _ z => z.elim)) ?_ (fun m hm => (by cases hm)) l5 hL1.2.1 q2 q3 q4
  · rw [List.append_nil] at hb
    exact hb
  · rw [List.append_nil, List.take_zero, List.append_nil]
    obtain ⟨c1, c2, c3, c4, c5, c6, c7, c8⟩ := hL1
    exact ⟨c1, gfi_eq, (gfr_nf (g := g1) (F := 110) (n := l) rfl).trans c3, gfr_eq (g := g1), c5, c6, c7, c8⟩
end Li
