set_option maxRecDepth 100000
/-! LINKEDLIST: linkBefore, unlink, clear, addAll -/
section Rd
variable {g : GH} {F f n m : Nat} {x : Int} {r : Option Nat}
theorem gfr_sfr : gfr (gsfr g F n r) f m = if f = F ∧ m = n then r else gfr g f m := rfl
theorem gfr_sfi : gfr (gsfi g F n x) f m = gfr g f m := rfl
theorem gfi_sfi : gfi (gsfi g F n x) f m = if f = F ∧ m = n then x else gfi g f m := rfl
theorem gfi_sfr : gfi (gsfr g F n r) f m = gfi g f m := rfl
end Rd
section Lu
variable {d : Nat} {g : GH} {l : Nat} {ns : List Nat} {xs : List (Option Nat)}
theorem G_llBef (h : LLs g l ns xs) {k s : Nat} (hs : ns[k]? = some s) {v : Option Nat} (hv : gokO g v = true) (hm : gfi g 102 l < 2147483647) (hl : ns.length < 1000000) : GMr (d + 2) gk_J3_linkBefore [aR l, aQ v, aR s] g (fun r g' => r = none ∧ LlQ g g' l ns xs k v) := by
  refine GMr.wf (fun hW => ?_)
  have hm0 := hW.2.1.1 102 l
  have hlt := h.lt hW
  have hh := h
  have hk : k < ns.length := (List.getElem?_eq_some_iff.mp hs).1
  have hsm := List.mem_of_getElem? hs
  obtain ⟨h1, h2, h3, h4, h5, h6, h7, h8⟩ := h
  obtain ⟨s1, s2, s3, s4⟩ := h7 k s hs
  refine GM.of rfl rfl rfl ?_
  (repeat (first | (refine GW.pl rfl rfl ?_) | (refine GW.geti rfl rfl (by first | exact GHas.at (by assumption) rfl | exact GHas.k (by assumption) rfl rfl) (by first | assumption | rfl) (fun _ => ?_)) | (refine GW.getr rfl rfl (by first | exact GHas.at (by assumption) rfl | exact GHas.k (by assumption) rfl rfl) (by first | assumption | rfl) ?_)))
  refine GW.wf (fun hW0 => ?_)
  refine GW.new (L := 3) (c := 20) rfl rfl rfl (fun q hq hAq => ?_)
  (repeat (refine GW.pl rfl rfl ?_))
  refine GW.c4 rfl rfl (by first | exact Or.inl rfl | exact Or.inr (grecv_at (by assumption)) | exact Or.inr (grecv_c (by assumption)) | exact Or.inr (grecv_c (SIs.cls (by assumption))) | exact Or.inr (grecv_at (BSb.at (by assumption)))) (by first | exact Or.inl (by decide) | exact Or.inr (gnewv_at (by assumption))) rfl (G_node hW hq hAq (pv ns k) v (some s)) ?_
  rintro _ g1 ⟨rfl, hK, q1, q2, q3, q4, q5⟩
  have hqn : q ∉ ns := fun z => by have := hlt.2.1 q z; omega
  have hql : q ≠ l := by have := hlt.1; omega
  have sl := hK.2.2.1 l hlt.1 (fun z => z)
  have sn := fun n (hn : n ∈ ns) => hK.2.2.1 n (hlt.2.1 n hn) (fun z => z)
  have l1 : GAt g1 l 18 := ⟨sl.1.trans h1.1, h1.2⟩
  have l2 : gfi g1 108 l = ns.length := (sl.2.2.1 _).trans h2
  have l3 : gfr g1 109 l = ns[0]? := (sl.2.2.2.1 _).trans h3
  have l4 : gfr g1 110 l = pv ns ns.length := (sl.2.2.2.1 _).trans h4
  have l5 : gfi g1 102 l = gfi g 102 l := sl.2.2.1 _
  have n7 : ∀ (i n : Nat), ns[i]? = some n → GAt g1 n 20 ∧ gfr g1 116 n = xs.getD i none ∧ gfr g1 117 n = ns[i + 1]? ∧ gfr g1 118 n = pv ns i := by
    intro i n hi
    obtain ⟨b1, b2, b3, b4⟩ := h7 i n hi
    have kn := sn n (List.mem_of_getElem? hi)
    exact ⟨⟨kn.1.trans b1.1, b1.2⟩, (kn.2.2.2.1 _).trans b2, (kn.2.2.2.1 _).trans b3, (kn.2.2.2.1 _).trans b4⟩
  have sA : GAt g1 s 20 := (n7 k s hs).1
  have hls : l ≠ s := fun z => hlt.2.2 (z ▸ hsm)
  have hqs : q ≠ s := fun z => hqn (z ▸ hsm)
  (repeat (refine GW.pl rfl rfl ?_))
  refine GW.putr rfl rfl sA rfl ?_
  (repeat (refine GW.pl rfl rfl ?_))
  by_cases hz : k = 0
  · have hpv : pv ns k = none := if_pos hz
    rw [hpv] at q4 ⊢
    refine GW.nul rfl rfl rfl ?_
    (repeat (refine GW.pl rfl rfl ?_))
    refine GW.putr rfl rfl l1 rfl ?_
    (repeat (refine GW.pl rfl rfl ?_))
    refine GW.geti (v := (ns.length : Int)) rfl rfl (GHas.at l1 rfl) l2 (fun _ => ?_)
    (repeat (refine GW.pl rfl rfl ?_))
    refine GW.puti rfl rfl l1 rfl ⟨by omega, by omega⟩ ?_
    (repeat (refine GW.pl rfl rfl ?_))
    refine GW.geti (v := gfi g 102 l) rfl rfl (GHas.at l1 rfl) ((gfi_nf (g := g1) (F := 108) (n := l) rfl).trans l5) (fun _ => ?_)
    (repeat (refine GW.pl rfl rfl ?_))
    refine GW.puti rfl rfl l1 rfl ⟨by omega, by omega⟩ ?_
    refine GW.ret rfl rfl ⟨_, rfl, rfl, q, ?_, ?_, by omega, ?_, gfi_eq⟩
    · exact (hK.mono (S' := LlS l ns) (Nat.le_refl _) (fun _ _ z => z.elim)).tr <| (((Kp.fr (S := LlS l ns) rfl (Or.inr hsm)).tr (Kp.fr rfl (Or.inl rfl))).tr (Kp.fi rfl (Or.inl rfl))).tr (Kp.fi rfl (Or.inl rfl))
    · refine hh.ins (by omega) hqn l1 ?_ ?_ ?_ ⟨q1, ?_, ?_, ?_⟩ (fun i n hi => ?_) (fun i => gokO.kp hK hW (h8 i)) (gokO.kp hK hW hv)
      · simp only [gfr_sfr, gfr_sfi, gfi_sfi, gfi_sfr, Nat.reduceEqDiff, false_and, true_and, and_true, reduceIte]
      · simp only [gfr_sfr, gfr_sfi, gfi_sfi, gfi_sfr, Nat.reduceEqDiff, false_and, true_and, and_true, reduceIte, hz]
      · simp only [gfr_sfr, gfr_sfi, gfi_sfi, gfi_sfr, Nat.reduceEqDiff, false_and, true_and, and_true, reduceIte]
        rw [if_neg (by omega)]; exact l4
      · simp only [gfr_sfr, gfr_sfi, gfi_sfi, gfi_sfr, Nat.reduceEqDiff, false_and, true_and, and_true, reduceIte]
        exact q2
      · simp only [gfr_sfr, gfr_sfi, gfi_sfi, gfi_sfr, Nat.reduceEqDiff, false_and, true_and, and_true, reduceIte]
        rw [q3, hs]
      · simp only [gfr_sfr, gfr_sfi, gfi_sfi, gfi_sfr, Nat.reduceEqDiff, false_and, true_and, and_true, reduceIte, hqs]
        rw [q4, hpv]
      · have hil := (List.getElem?_eq_some_iff.mp hi).1
        obtain ⟨b1, b2, b3, b4⟩ := n7 i n hi
        have hnl : n ≠ l := fun z => hlt.2.2 (z ▸ List.mem_of_getElem? hi)
        refine ⟨b1, ?_, ?_, ?_⟩
        · simp only [gfr_sfr, gfr_sfi, gfi_sfi, gfi_sfr, Nat.reduceEqDiff, false_and, true_and, and_true, reduceIte]
          exact b2
        · simp only [gfr_sfr, gfr_sfi, gfi_sfi, gfi_sfr, Nat.reduceEqDiff, false_and, true_and, and_true, reduceIte]
          rw [if_neg (by omega)]; exact b3
        · by_cases c : i = k
          · have e : n = s := Option.some.inj (hi.symm.trans (c ▸ hs))
            simp only [gfr_sfr, gfr_sfi, gfi_sfi, gfi_sfr, Nat.reduceEqDiff, false_and, true_and, and_true, reduceIte, e, c]
          · have hne : n ≠ s := fun z => c (nodup_ix h6 hi (z ▸ hs))
            simp only [gfr_sfr, gfr_sfi, gfi_sfi, gfi_sfr, Nat.reduceEqDiff, false_and, true_and, and_true, reduceIte, hne, c]
            exact b4
    · show q < gsz g1; omega
  · obtain ⟨p, hp⟩ := getE (show k - 1 < ns.length by omega)
    have hpv : pv ns k = some p := (if_neg hz).trans hp
    have hpm := List.mem_of_getElem? hp
    obtain ⟨p1, p2, p3, p4⟩ := n7 _ p hp
    rw [hpv] at q4 ⊢
    refine GW.nul rfl rfl (gok_at (show GAt (gsfr g1 118 s (some q)) p 20 from p1) rfl) ?_
    (repeat (refine GW.pl rfl rfl ?_))
    refine GW.putr rfl rfl p1 rfl ?_
    (repeat (refine GW.pl rfl rfl ?_))
    have hlp : l ≠ p := fun z => hlt.2.2 (z ▸ hpm)
    have hqp : q ≠ p := fun z => hqn (z ▸ hpm)
    refine GW.geti (v := (ns.length : Int)) rfl rfl (GHas.at l1 rfl) l2 (fun _ => ?_)
    (repeat (refine GW.pl rfl rfl ?_))
    refine GW.puti rfl rfl l1 rfl ⟨by omega, by omega⟩ ?_
    (repeat (refine GW.pl rfl rfl ?_))
    refine GW.geti (v := gfi g 102 l) rfl rfl (GHas.at l1 rfl) ((gfi_nf (g := g1) (F := 108) (n := l) rfl).trans l5) (fun _ => ?_)
    (repeat (refine GW.pl rfl rfl ?_))
    refine GW.puti rfl rfl l1 rfl ⟨by omega, by omega⟩ ?_
    refine GW.ret rfl rfl ⟨_, rfl, rfl, q, ?_, ?_, by omega, ?_, gfi_eq⟩
    · exact (hK.mono (S' := LlS l ns) (Nat.le_refl _) (fun _ _ z => z.elim)).tr <| (((Kp.fr (S := LlS l ns) rfl (Or.inr hsm)).tr (Kp.fr rfl (Or.inr hpm))).tr (Kp.fi rfl (Or.inl rfl))).tr (Kp.fi rfl (Or.inl rfl))
    · refine hh.ins (by omega) hqn l1 ?_ ?_ ?_ ⟨q1, ?_, ?_, ?_⟩ (fun i n hi => ?_) (fun i => gokO.kp hK hW (h8 i)) (gokO.kp hK hW hv)
      · simp only [gfr_sfr, gfr_sfi, gfi_sfi, gfi_sfr, Nat.reduceEqDiff, false_and, true_and, and_true, reduceIte]
      · simp only [gfr_sfr, gfr_sfi, gfi_sfi, gfi_sfr, Nat.reduceEqDiff, false_and, true_and, and_true, reduceIte, hz]
        exact l3
      · simp only [gfr_sfr, gfr_sfi, gfi_sfi, gfi_sfr, Nat.reduceEqDiff, false_and, true_and, and_true, reduceIte]
        rw [if_neg (by omega)]; exact l4
      · simp only [gfr_sfr, gfr_sfi, gfi_sfi, gfi_sfr, Nat.reduceEqDiff, false_and, true_and, and_true, reduceIte]
        exact q2
      · simp only [gfr_sfr, gfr_sfi, gfi_sfi, gfi_sfr, Nat.reduceEqDiff, false_and, true_and, and_true, reduceIte, hqp]
        rw [q3, hs]
      · simp only [gfr_sfr, gfr_sfi, gfi_sfi, gfi_sfr, Nat.reduceEqDiff, false_and, true_and, and_true, reduceIte, hqs]
        rw [q4, hpv]
      · have hil := (List.getElem?_eq_some_iff.mp hi).1
        obtain ⟨b1, b2, b3, b4⟩ := n7 i n hi
        refine ⟨b1, ?_, ?_, ?_⟩
        · simp only [gfr_sfr, gfr_sfi, gfi_sfi, gfi_sfr, Nat.reduceEqDiff, false_and, true_and, and_true, reduceIte]
          exact b2
        · by_cases c : i + 1 = k
          · have e : n = p := Option.some.inj (hi.symm.trans ((show i = k - 1 by omega) ▸ hp))
            simp only [gfr_sfr, gfr_sfi, gfi_sfi, gfi_sfr, Nat.reduceEqDiff, false_and, true_and, and_true, reduceIte, e, c]
          · have hne : n ≠ p := fun z => c (by have := nodup_ix h6 hi (z ▸ hp); omega)
            simp only [gfr_sfr, gfr_sfi, gfi_sfi, gfi_sfr, Nat.reduceEqDiff, false_and, true_and, and_true, reduceIte, hne, c]
            exact b3
        · by_cases c : i = k
          · have e : n = s := Option.some.inj (hi.symm.trans (c ▸ hs))
            simp only [gfr_sfr, gfr_sfi, gfi_sfi, gfi_sfr, Nat.reduceEqDiff, false_and, true_and, and_true, reduceIte, e, c]
          · have hne : n ≠ s := fun z => c (nodup_ix h6 hi (z ▸ hs))
            simp only [gfr_sfr, gfr_sfi, gfi_sfi, gfi_sfr, Nat.reduceEqDiff, false_and, true_and, and_true, reduceIte, hne, c]
            exact b4
    · show q < gsz g1; omega
/-- a node is taken out -/
def LlD (g g' : GH) (l : Nat) (ns : List Nat) (xs : List (Option Nat)) (k : Nat) : Prop := Kp g g' (LlS l ns) 0 ∧ LLs g' l (delA ns k) (delA xs k) ∧ gfi g' 102 l = gfi g 102 l + 1
theorem G_llUnl (h : LLs g l ns xs) {k s : Nat} (hs : ns[k]? = some s) (hm : gfi g 102 l < 2147483647) (hl : ns.length < 1000000) : GMr (d + 1) gk_J3_unlink [aR l, aR s] g (fun r g' => r = vR (xs.getD k none) ∧ LlD g g' l ns xs k) := by
  refine GMr.wf (fun hW => ?_)
  have hm0 := hW.2.1.1 102 l
  have hlt := h.lt hW
  have hh := h
  have hk : k < ns.length := (List.getElem?_eq_some_iff.mp hs).1
  have hsm := List.mem_of_getElem? hs
  obtain ⟨h1, h2, h3, h4, h5, h6, h7, h8⟩ := h
  obtain ⟨s1, s2, s3, s4⟩ := h7 k s hs
  have hls : l ≠ s := fun z => hlt.2.2 (z ▸ hsm)
  -- from 33 on
  have fin : ∀ (g1 : GH) (e p nx : Option GV), Kp g g1 (LlS l ns) 0 → GAt g1 l 18 → GAt g1 s 20 → gfi g1 108 l = ns.length → gfi g1 102 l = gfi g 102 l → gfr g1 109 l = (if k = 0 then ns[1]? else ns[0]?) → gfr g1 110 l = (if k + 1 = ns.length then pv ns k else pv ns ns.length) → (∀ (i n : Nat), i ≠ k → ns[i]? = some n → GAt g1 n 20 ∧ gfr g1 116 n = xs.getD i none ∧ gfr g1 117 n = (if i + 1 = k then ns[k + 1]? else ns[i + 1]?) ∧ gfr g1 118 n = (if i = k + 1 then pv ns k else pv ns i)) → GW d gm_J3_unlink 33 [some (aR l), some (aR s), some (aQ (xs.getD k none)), e, p] [] g1 (fun r g' => ∃ v, r = .inl v ∧ v = vR (xs.getD k none) ∧ LlD g g' l ns xs k) := by
    intro g1 e p nx hK l1 sA l2 l5 l3 l4 n7
    (repeat (refine GW.pl rfl rfl ?_))
    refine GW.putr rfl rfl sA rfl ?_
    (repeat (refine GW.pl rfl rfl ?_))
    refine GW.geti (v := (ns.length : Int)) rfl rfl (GHas.at l1 rfl) l2 (fun _ => ?_)
    (repeat (refine GW.pl rfl rfl ?_))
    refine GW.puti rfl rfl l1 rfl ⟨by omega, by omega⟩ ?_
    (repeat (refine GW.pl rfl rfl ?_))
    refine GW.geti (v := gfi g 102 l) rfl rfl (GHas.at l1 rfl) ((gfi_nf (g := g1) (F := 108) (n := l) rfl).trans l5) (fun _ => ?_)
    (repeat (refine GW.pl rfl rfl ?_))
    refine GW.puti rfl rfl l1 rfl ⟨by omega, by omega⟩ ?_
    (repeat (refine GW.pl rfl rfl ?_))
    refine GW.aret rfl rfl ⟨_, rfl, rfl, ?_, ?_, gfi_eq⟩
    · exact hK.tr <| ((Kp.fr (S := LlS l ns) rfl (Or.inr hsm)).tr (Kp.fi rfl (Or.inl rfl))).tr (Kp.fi rfl (Or.inl rfl))
    · refine hh.del hs l1 ?_ l3 l4 (fun i n hik hi => ?_) (fun i => gokO.kp hK hW (h8 i))
      · simp only [gfr_sfr, gfr_sfi, gfi_sfi, gfi_sfr, Nat.reduceEqDiff, false_and, true_and, and_true, reduceIte]
      · obtain ⟨b1, b2, b3, b4⟩ := n7 i n hik hi
        have hne : n ≠ s := fun z => hik (nodup_ix h6 hi (z ▸ hs))
        refine ⟨b1, ?_, ?_, ?_⟩
        · simp only [gfr_sfr, gfr_sfi, gfi_sfi, gfi_sfr, Nat.reduceEqDiff, false_and, true_and, and_true, reduceIte, hne]
          exact b2
        · simp only [gfr_sfr, gfr_sfi, gfi_sfi, gfi_sfr, Nat.reduceEqDiff, false_and, true_and, and_true, reduceIte]
          exact b3
        · simp only [gfr_sfr, gfr_sfi, gfi_sfi, gfi_sfr, Nat.reduceEqDiff, false_and, true_and, and_true, reduceIte]
          exact b4
  have two : ∀ (g1 : GH) (pp : Option Nat), pp = pv ns k → Kp g g1 (LlS l ns) 0 → GAt g1 l 18 → GAt g1 s 20 → gfi g1 108 l = ns.length → gfi g1 102 l = gfi g 102 l → gfr g1 109 l = (if k = 0 then ns[1]? else ns[0]?) → gfr g1 110 l = pv ns ns.length → (∀ (i n : Nat), i ≠ k → ns[i]? = some n → GAt g1 n 20 ∧ gfr g1 116 n = xs.getD i none ∧ gfr g1 117 n = (if i + 1 = k then ns[k + 1]? else ns[i + 1]?) ∧ gfr g1 118 n = pv ns i) → GW d gm_J3_unlink 21 [some (aR l), some (aR s), some (aQ (xs.getD k none)), some (aQ ns[k + 1]?), some (aQ pp)] [] g1 (fun r g' => ∃ v, r = .inl v ∧ v = vR (xs.getD k none) ∧ LlD g g' l ns xs k) := by
    intro g1 pp hpp hK l1 sA l2 l5 l3 l4 n7
    subst hpp
    (repeat (refine GW.pl rfl rfl ?_))
    by_cases hz : k + 1 = ns.length
    · have hnx : ns[k + 1]? = none := List.getElem?_eq_none (by omega)
      rw [hnx]
      refine GW.nul rfl rfl rfl ?_
      (repeat (refine GW.pl rfl rfl ?_))
      refine GW.putr rfl rfl l1 rfl ?_
      (iterate 1 (refine GW.pl rfl rfl ?_))
      refine fin _ _ _ none (hK.tr (Kp.fr (S := LlS l ns) (F := 110) (n := l) rfl (Or.inl rfl))) l1 sA l2 l5 ?_ ?_ (fun i n hik hi => ?_)
      · simp only [gfr_sfr, gfr_sfi, gfi_sfi, gfi_sfr, Nat.reduceEqDiff, false_and, true_and, and_true, reduceIte]
        exact l3
      · simp only [gfr_sfr, gfr_sfi, gfi_sfi, gfi_sfr, Nat.reduceEqDiff, false_and, true_and, and_true, reduceIte, hz]
      · obtain ⟨b1, b2, b3, b4⟩ := n7 i n hik hi
        have hil := (List.getElem?_eq_some_iff.mp hi).1
        refine ⟨b1, ?_, ?_, ?_⟩
        · simp only [gfr_sfr, gfr_sfi, gfi_sfi, gfi_sfr, Nat.reduceEqDiff, false_and, true_and, and_true, reduceIte]
          exact b2
        · simp only [gfr_sfr, gfr_sfi, gfi_sfi, gfi_sfr, Nat.reduceEqDiff, false_and, true_and, and_true, reduceIte]
          exact b3
        · simp only [gfr_sfr, gfr_sfi, gfi_sfi, gfi_sfr, Nat.reduceEqDiff, false_and, true_and, and_true, reduceIte]
          rw [if_neg (by omega)]; exact b4
    · obtain ⟨p, hp⟩ := getE (show k + 1 < ns.length by omega)
      have hpm := List.mem_of_getElem? hp
      obtain ⟨p1, p2, p3, p4⟩ := n7 _ p (by omega) hp
      have hlp : l ≠ p := fun z => hlt.2.2 (z ▸ hpm)
      have hps : p ≠ s := fun z => by have := nodup_ix h6 hp (z ▸ hs); omega
      rw [hp]
      refine GW.nul rfl rfl (gok_at p1 rfl) ?_
      (repeat (refine GW.pl rfl rfl ?_))
      refine GW.putr rfl rfl p1 rfl ?_
      (repeat (refine GW.pl rfl rfl ?_))
      refine GW.putr rfl rfl sA rfl ?_
      refine fin _ _ _ none (hK.tr ((Kp.fr (S := LlS l ns) rfl (Or.inr hpm)).tr (Kp.fr rfl (Or.inr hsm)))) l1 sA l2 l5 ?_ ?_ (fun i n hik hi => ?_)
      · simp only [gfr_sfr, gfr_sfi, gfi_sfi, gfi_sfr, Nat.reduceEqDiff, false_and, true_and, and_true, reduceIte]
        exact l3
      · simp only [gfr_sfr, gfr_sfi, gfi_sfi, gfi_sfr, Nat.reduceEqDiff, false_and, true_and, and_true, reduceIte, hz]
        exact l4
      · obtain ⟨b1, b2, b3, b4⟩ := n7 i n hik hi
        have hne : n ≠ s := fun z => hik (nodup_ix h6 hi (z ▸ hs))
        refine ⟨b1, ?_, ?_, ?_⟩
        · simp only [gfr_sfr, gfr_sfi, gfi_sfi, gfi_sfr, Nat.reduceEqDiff, false_and, true_and, and_true, reduceIte]
          exact b2
        · simp only [gfr_sfr, gfr_sfi, gfi_sfi, gfi_sfr, Nat.reduceEqDiff, false_and, true_and, and_true, reduceIte, hne]
          rw [b3, hp]
        · by_cases c : i = k + 1
          · have e : n = p := Option.some.inj (hi.symm.trans (c ▸ hp))
            simp only [gfr_sfr, gfr_sfi, gfi_sfi, gfi_sfr, Nat.reduceEqDiff, false_and, true_and, and_true, reduceIte, e, c]
          · have hne2 : n ≠ p := fun z => c (nodup_ix h6 hi (z ▸ hp))
            simp only [gfr_sfr, gfr_sfi, gfi_sfi, gfi_sfr, Nat.reduceEqDiff, false_and, true_and, and_true, reduceIte, hne2, c]
            exact b4
  refine GM.of rfl rfl rfl ?_
  (repeat (first | (refine GW.pl rfl rfl ?_) | (refine GW.geti rfl rfl (by first | exact GHas.at (by assumption) rfl | exact GHas.k (by assumption) rfl rfl) (by first | assumption | rfl) (fun _ => ?_)) | (refine GW.getr rfl rfl (by first | exact GHas.at (by assumption) rfl | exact GHas.k (by assumption) rfl rfl) (by first | assumption | rfl) ?_)))
  by_cases hz : k = 0
  · have hpv : pv ns k = none := if_pos hz
    rw [hpv]
    refine GW.nul rfl rfl rfl ?_
    (repeat (refine GW.pl rfl rfl ?_))
    refine GW.putr rfl rfl h1 rfl ?_
    (iterate 1 (refine GW.pl rfl rfl ?_))
    refine two _ _ hpv.symm (Kp.fr (S := LlS l ns) (F := 109) (n := l) (r := ns[k + 1]?) rfl (Or.inl rfl)) h1 s1 h2 rfl ?_ ?_ (fun i n hik hi => ?_)
    · simp only [gfr_sfr, gfr_sfi, gfi_sfi, gfi_sfr, Nat.reduceEqDiff, false_and, true_and, and_true, reduceIte, hz]
    · simp only [gfr_sfr, gfr_sfi, gfi_sfi, gfi_sfr, Nat.reduceEqDiff, false_and, true_and, and_true, reduceIte]
      exact h4
    · obtain ⟨b1, b2, b3, b4⟩ := h7 i n hi
      refine ⟨b1, ?_, ?_, ?_⟩
      · simp only [gfr_sfr, gfr_sfi, gfi_sfi, gfi_sfr, Nat.reduceEqDiff, false_and, true_and, and_true, reduceIte]
        exact b2
      · simp only [gfr_sfr, gfr_sfi, gfi_sfi, gfi_sfr, Nat.reduceEqDiff, false_and, true_and, and_true, reduceIte]
        rw [if_neg (by omega)]; exact b3
      · simp only [gfr_sfr, gfr_sfi, gfi_sfi, gfi_sfr, Nat.reduceEqDiff, false_and, true_and, and_true, reduceIte]
        exact b4
  · obtain ⟨p, hp⟩ := getE (show k - 1 < ns.length by omega)
    have hpv : pv ns k = some p := (if_neg hz).trans hp
    have hpm := List.mem_of_getElem? hp
    obtain ⟨p1, p2, p3, p4⟩ := h7 _ p hp
    have hps : p ≠ s := fun z => by have := nodup_ix h6 hp (z ▸ hs); omega
    rw [hpv]
    refine GW.nul rfl rfl (gok_at p1 rfl) ?_
    (repeat (refine GW.pl rfl rfl ?_))
    refine GW.putr rfl rfl p1 rfl ?_
    (repeat (refine GW.pl rfl rfl ?_))
    refine GW.putr rfl rfl s1 rfl ?_
    refine two _ _ hpv.symm ((Kp.fr (S := LlS l ns) rfl (Or.inr hpm)).tr (Kp.fr rfl (Or.inr hsm))) h1 s1 h2 rfl ?_ ?_ (fun i n hik hi => ?_)
    · simp only [gfr_sfr, gfr_sfi, gfi_sfi, gfi_sfr, Nat.reduceEqDiff, false_and, true_and, and_true, reduceIte, hz]
      exact h3
    · simp only [gfr_sfr, gfr_sfi, gfi_sfi, gfi_sfr, Nat.reduceEqDiff, false_and, true_and, and_true, reduceIte]
      exact h4
    · obtain ⟨b1, b2, b3, b4⟩ := h7 i n hi
      have hne : n ≠ s := fun z => hik (nodup_ix h6 hi (z ▸ hs))
      refine ⟨b1, ?_, ?_, ?_⟩
      · simp only [gfr_sfr, gfr_sfi, gfi_sfi, gfi_sfr, Nat.reduceEqDiff, false_and, true_and, and_true, reduceIte]
        exact b2
      · by_cases c : i + 1 = k
        · have e : n = p := Option.some.inj (hi.symm.trans ((show i = k - 1 by omega) ▸ hp))
          simp only [gfr_sfr, gfr_sfi, gfi_sfi, gfi_sfr, Nat.reduceEqDiff, false_and, true_and, and_true, reduceIte, e, c]
        · have hne2 : n ≠ p := fun z => c (by have := nodup_ix h6 hi (z ▸ hp); omega)
          simp only [gfr_sfr, gfr_sfi, gfi_sfi, gfi_sfr, Nat.reduceEqDiff, false_and, true_and, and_true, reduceIte, hne2, c]
          exact b3
      · simp only [gfr_sfr, gfr_sfi, gfi_sfi, gfi_sfr, Nat.reduceEqDiff, false_and, true_and, and_true, reduceIte, hne]
        exact b4
end Lu
