set_option maxRecDepth 100000
/-! INTEGER: valueOf, intValue, the digits of a number below 100; StringBuilder.append(int), String.valueOf(int); exceptions -/
def IIs (g : GH) (n : Nat) (i : Int) : Prop := gcls g n = 23 ∧ gfi g 134 n = i
def dg (i : Int) : List Int := if i < 10 then [48 + i] else [48 + i / 10, 48 + i % 10]
theorem GW.aalk {d i a : Nat} {b : Int} {M : GMeth} {ls : GL} {st : List GV} {g : GH} {Q : GO → GH → Prop} {x : Int} (hC : M.2.2.1[i]? = some (15, a, b)) (hx : 0 ≤ x ∧ x < 256) (k : GW d M (i + 1) ls (.inr (.inr (some x.toNat)) :: st) g Q) : GW d M i ls (.inl x :: .inr (.inr (some 333)) :: st) g Q := by
  intro hR
  obtain ⟨h1, h2, h3, h4, h5⟩ := hR.1 333 (by decide)
  refine GW.step hC (by decide) ((if_pos ⟨Or.inr ⟨h1, rfl⟩, hx.1, by rw [h2]; exact hx.2⟩).trans ?_) k hR
  rw [h5]
  rfl
theorem IIs.k {g : GH} (hW : GWf g) {n : Nat} (hn : n < 256) : IIs g n (n - 128) := by
  obtain ⟨h1, h2, h3, h4, h5⟩ := hW.1 n (by omega)
  refine ⟨h1.trans (if_pos hn), ((h3 134 rfl).1).trans ?_⟩
  exact if_pos ⟨rfl, hn⟩
section Int9
variable {d : Nat} {g : GH} {n a cap : Nat} {s : List Int}
theorem G_intV {i : Int} (h : IIs g n i) : GE (d + 1) gk_J24_intValue [aR n] g (vI i) := by
  refine GMr.wf (fun hW => ?_)
  have := hW.2.1.1 134 n
  rw [h.2] at this
  refine GM.of rfl rfl rfl ?_
  (repeat (refine GW.pl rfl rfl ?_))
  refine GW.geti rfl rfl (GHas.k h.1 rfl rfl) h.2 (fun _ => ?_)
  exact GW.ir1 rfl rfl this ⟨_, rfl, rfl, rfl⟩
theorem G_intOf {i : Int} (h : 0 ≤ i ∧ i < 128) : GE (d + 1) gk_J24_valueOf [aI i] g (vR (some (i + 128).toNat)) := by
  refine GM.of rfl rfl rfl ?_
  (repeat (refine GW.pl rfl rfl ?_))
  refine GW.br rfl rfl (by first | omega | decide | (constructor <;> first | omega | decide)) (fun h1 => by first | (exfalso; omega) | exact absurd h1 (by decide)) (fun h1 => ?_)
  (repeat (refine GW.pl rfl rfl ?_))
  refine GW.br rfl rfl ⟨⟨by omega, by omega⟩, by decide⟩ (fun h1 => absurd (show (127 : Int) < i from h1) (by omega)) (fun h1 => ?_)
  (repeat (refine GW.pl rfl rfl ?_))
  refine GW.aalk rfl (by omega) ?_
  exact GW.aret rfl rfl ⟨_, rfl, rfl, rfl⟩
theorem dg_len {i : Int} : (dg i).length = if i < 10 then 1 else 2 := by unfold dg; split <;> rfl
theorem dg_R {i : Int} (h : 0 ≤ i ∧ i < 100) : ∀ x ∈ dg i, 48 ≤ x ∧ x < 58 := by
  intro x hx
  unfold dg at hx
  split at hx
  · rw [List.mem_singleton] at hx; omega
  · rcases List.mem_cons.mp hx with hx | hx
    · omega
    · rw [List.mem_singleton] at hx; omega
theorem G_size {i : Int} (h : 0 ≤ i ∧ i < 100) : GE (d + 1) gk_J24_stringSize [aI i] g (vI (dg i).length) := by
  rw [dg_len]
  refine GM.of rfl rfl rfl ?_
  (repeat (refine GW.pl rfl rfl ?_))
  refine GW.br rfl rfl (by first | omega | decide | (constructor <;> first | omega | decide)) (fun h1 => by first | (exfalso; omega) | exact absurd h1 (by decide)) (fun h1 => ?_)
  (repeat (refine GW.pl rfl rfl ?_))
  refine GW.br rfl rfl (by first | omega | decide | (constructor <;> first | omega | decide)) (fun h2 => by first | (exfalso; omega) | exact absurd h2 (by decide)) (fun h2 => ?_)
  (repeat (refine GW.pl rfl rfl ?_))
  refine GW.br rfl rfl (by first | omega | decide | (constructor <;> first | omega | decide)) (fun h3 => ?_) (fun h3 => ?_)
  · (repeat (refine GW.pl rfl rfl ?_))
    refine GW.br rfl rfl (by first | omega | decide | (constructor <;> first | omega | decide)) (fun h2 => by first | (exfalso; omega) | exact absurd h2 (by decide)) (fun h2 => ?_)
    (repeat (refine GW.pl rfl rfl ?_))
    refine GW.br rfl rfl (by first | omega | decide | (constructor <;> first | omega | decide)) (fun h4 => by first | (exfalso; omega) | exact absurd h4 (by decide)) (fun h4 => ?_)
    (repeat (refine GW.pl rfl rfl ?_))
    rw [if_neg (by omega)]
    exact GW.ir1 rfl rfl (by decide) ⟨_, rfl, rfl, rfl⟩
  · (repeat (refine GW.pl rfl rfl ?_))
    rw [if_pos (by omega)]
    exact GW.ir1 rfl rfl (by decide) ⟨_, rfl, rfl, rfl⟩
theorem PIs.snoc {s : List Int} (h : PIs g a s cap) {x : Int} (hx : 0 ≤ x ∧ x < 128) (hl : s.length < cap) : PIs (gsai g a s.length x) a (s ++ [x]) cap := by
  refine ⟨h.1, h.2.1, by rw [List.length_append]; show s.length + 1 ≤ _; omega, fun j hj => ?_, fun y hy => ?_⟩
  · rw [List.length_append] at hj
    have hj : j < s.length + 1 := hj
    rw [gai_at]
    by_cases hjs : j = s.length
    · subst hjs
      rw [if_pos rfl, List.getD_eq_getElem?_getD, List.getElem?_append_right (Nat.le_refl _), Nat.sub_self]; rfl
    · rw [if_neg hjs, h.2.2.2.1 j (by omega), List.getD_eq_getElem?_getD, List.getD_eq_getElem?_getD, List.getElem?_append_left (by omega)]
  · rcases List.mem_append.mp hy with hy | hy
    · exact h.2.2.2.2 y hy
    · rw [List.mem_singleton] at hy; omega
theorem G_chars (h : PIs g a s cap) (ha : 1000 ≤ a) {i : Int} (hi : 0 ≤ i ∧ i < 100) (hl : s.length + (dg i).length ≤ cap) : GMr (d + 1) gk_J24_getChars [aI i, aI (s.length + (dg i).length : Nat), aR a] g (fun r g' => r = vI s.length ∧ Kp g g' (fun k => k = a) 0 ∧ PIs g' a (s ++ dg i) cap) := by
  refine GMr.wf (fun hW => ?_)
  obtain ⟨o1, o2, -, o4, -⟩ := hW.1 332 (by decide)
  obtain ⟨t1, t2, -, t4, -⟩ := hW.1 331 (by decide)
  have hc := hW.2.2.2.2 a
  rw [h.2.1] at hc
  rw [dg_len] at hl
  have od : ∀ j : Nat, kai 332 j = 48 + ((j % 10 : Nat) : Int) := fun j => rfl
  have td : ∀ j : Nat, kai 331 j = 48 + ((j / 10 % 10 : Nat) : Int) := fun j => rfl
  refine GM.of rfl rfl rfl ?_
  (repeat (refine GW.pl rfl rfl ?_))
  refine GW.br rfl rfl (by first | omega | decide | (constructor <;> first | omega | decide)) (fun h1 => ?_) (fun h1 => by first | (exfalso; omega) | exact absurd h1 (by decide))
  (repeat (refine GW.pl rfl rfl ?_))
  refine GW.br rfl rfl (by first | omega | decide | (constructor <;> first | omega | decide)) (fun h2 => by first | (exfalso; omega) | exact absurd h2 (by decide)) (fun h2 => ?_)
  (repeat (refine GW.pl rfl rfl ?_))
  refine GW.br rfl rfl (by first | omega | decide | (constructor <;> first | omega | decide)) (fun h3 => ?_) (fun h3 => by first | (exfalso; omega) | exact absurd h3 (by decide))
  (repeat (refine GW.pl rfl rfl ?_))
  refine GW.bald (v := 48 + i % 10) rfl o1 o2 ⟨by omega, by show -(-i) < (100 : Int); omega⟩ ((o4 _).trans ((od _).trans (by omega))) (fun hv => ?_)
  rw [dg_len]
  by_cases h9 : i < 10
  · rw [if_pos h9] at hl ⊢
    refine GW.bast (L := cap) rfl (⟨h.1, ha⟩ : GAt g a 101) h.2.1 ⟨by omega, by omega⟩ hv ?_
    (repeat (refine GW.pl rfl rfl ?_))
    refine GW.br rfl rfl (by first | omega | decide | (constructor <;> first | omega | decide)) (fun h4 => ?_) (fun h4 => by first | (exfalso; omega) | exact absurd h4 (by decide))
    (repeat (refine GW.pl rfl rfl ?_))
    refine GW.br rfl rfl (by first | omega | decide | (constructor <;> first | omega | decide)) (fun h5 => ?_) (fun h5 => by first | (exfalso; omega) | exact absurd h5 (by decide))
    (repeat (refine GW.pl rfl rfl ?_))
    have e : (((s.length + 1 : Nat) : Int) + -1).toNat = s.length := by omega
    rw [e]
    have e2 : ((s.length + 1 : Nat) : Int) + -1 = s.length := by omega
    refine GW.ir1 rfl rfl ⟨by omega, by omega⟩ ⟨_, rfl, by rw [e2], Kp.ai rfl, ?_⟩
    have := h.snoc (x := 48 + i % 10) (by omega) (by omega)
    unfold dg
    rw [if_pos h9]
    rw [show i % 10 = i by omega] at this ⊢
    exact this
  · rw [if_neg h9] at hl ⊢
    refine GW.bast (L := cap) rfl (⟨h.1, ha⟩ : GAt g a 101) h.2.1 ⟨by omega, by omega⟩ hv ?_
    (repeat (refine GW.pl rfl rfl ?_))
    refine GW.br rfl rfl (by first | omega | decide | (constructor <;> first | omega | decide)) (fun h4 => by first | (exfalso; omega) | exact absurd h4 (by decide)) (fun h4 => ?_)
    (repeat (refine GW.pl rfl rfl ?_))
    refine GW.bald (v := 48 + i / 10) rfl t1 t2 ⟨by omega, by show -(-i) < (100 : Int); omega⟩ ?_ (fun hv2 => ?_)
    · refine (if_neg (fun z => ?_)).trans ((t4 _).trans ((td _).trans (by omega)))
      have : (331 : Nat) = a := z.1
      omega
    refine GW.bast (L := cap) rfl (⟨h.1, ha⟩ : GAt g a 101) h.2.1 ⟨by omega, by omega⟩ hv2 ?_
    (repeat (refine GW.pl rfl rfl ?_))
    refine GW.br rfl rfl (by first | omega | decide | (constructor <;> first | omega | decide)) (fun h5 => ?_) (fun h5 => by first | (exfalso; omega) | exact absurd h5 (by decide))
    (repeat (refine GW.pl rfl rfl ?_))
    have e : (((s.length + 2 : Nat) : Int) + -1).toNat = s.length + 1 := by omega
    have e1 : (((s.length + 2 : Nat) : Int) + -1 + -1).toNat = s.length := by omega
    rw [e, e1]
    have e2 : ((s.length + 2 : Nat) : Int) + -1 + -1 = s.length := by omega
    refine GW.ir1 rfl rfl ⟨by omega, by omega⟩ ⟨_, rfl, by rw [e2], (Kp.ai (S := fun k => k = a) rfl).tr (Kp.ai rfl), ?_⟩
    have p1 := h.snoc (x := 48 + i / 10) (by omega) (by omega)
    have p2 := p1.snoc (x := 48 + i % 10) (by omega) (by rw [List.length_append]; show s.length + 1 < cap; omega)
    have e3 : s ++ dg i = s ++ [48 + i / 10] ++ [48 + i % 10] := by unfold dg; rw [if_neg h9, List.append_assoc]; rfl
    rw [e3]
    refine ⟨p2.1, p2.2.1, p2.2.2.1, fun j hj => ?_, p2.2.2.2.2⟩
    rw [← p2.2.2.2.1 j hj]
    rw [List.length_append] at *
    show (if a = a ∧ j = s.length then _ else if a = a ∧ j = s.length + 1 then _ else gai g a j) = (if a = a ∧ j = s.length + 1 then _ else if a = a ∧ j = s.length then _ else gai g a j)
    by_cases q1 : j = s.length
    · rw [if_pos ⟨rfl, q1⟩, if_neg (fun z => by omega), if_pos ⟨rfl, q1⟩]
    · by_cases q2 : j = s.length + 1
      · rw [if_neg (fun z => q1 z.2), if_pos ⟨rfl, q2⟩, if_pos ⟨rfl, q2⟩]
      · rw [if_neg (fun z => q1 z.2), if_neg (fun z => q2 z.2), if_neg (fun z => q2 z.2), if_neg (fun z => q1 z.2)]
theorem G_sbApI (h : BSb g n s a cap) {i : Int} (hi : 0 ≤ i ∧ i < 100) (hl : s.length < 29000) : GMr (d + 4) gk_J8_append_2 [aR n, aI i] g (fun r g' => r = vR (some n) ∧ SbQ g g' n a cap (s ++ dg i)) := by
  have hh := h
  obtain ⟨h1, h2, h3, h4, h5, h6, h7⟩ := h
  have hdl : (dg i).length ≤ 2 ∧ 1 ≤ (dg i).length := by rw [dg_len]; split <;> omega
  refine GM.of rfl rfl rfl ?_
  (repeat (first | (refine GW.pl rfl rfl ?_) | (refine GW.geti rfl rfl (by first | exact GHas.at (by assumption) rfl | exact GHas.k (by assumption) rfl rfl) (by first | assumption | rfl) (fun _ => ?_)) | (refine GW.getr rfl rfl (by first | exact GHas.at (by assumption) rfl | exact GHas.k (by assumption) rfl rfl) (by first | assumption | rfl) ?_)))
  refine GW.c1 rfl rfl (by first | exact Or.inl rfl | exact Or.inr (grecv_at (by assumption)) | exact Or.inr (grecv_c (by assumption)) | exact Or.inr (grecv_c (SIs.cls (by assumption))) | exact Or.inr (grecv_at (BSb.at (by assumption)))) (by first | exact Or.inl (by decide) | exact Or.inr (gnewv_at (by assumption))) rfl (G_size hi) ?_; rintro _ _ ⟨rfl, rfl⟩
  (repeat (refine GW.pl rfl rfl ?_))
  rw [show (s.length : Int) + (dg i).length = ((s.length + (dg i).length : Nat) : Int) by omega]
  refine GW.c2 rfl rfl (by first | exact Or.inl rfl | exact Or.inr (grecv_at (by assumption)) | exact Or.inr (grecv_c (by assumption)) | exact Or.inr (grecv_c (SIs.cls (by assumption))) | exact Or.inr (grecv_at (BSb.at (by assumption)))) (by first | exact Or.inl (by decide) | exact Or.inr (gnewv_at (by assumption))) rfl (G_sbEns hh (m := ((s.length + (dg i).length : Nat) : Int)) ⟨by omega, by omega⟩) ?_
  rintro _ g1 ⟨rfl, a1, cap1, hK, hB, ha1, ha2, hc1, hc2, hc3⟩
  have hB' := hB
  obtain ⟨k1, k2, k3, k4, k5, k6, k7⟩ := hB
  (repeat (refine GW.pl rfl rfl ?_))
  refine GW.c1 rfl rfl (by first | exact Or.inl rfl | exact Or.inr (grecv_at (by assumption)) | exact Or.inr (grecv_c (by assumption)) | exact Or.inr (grecv_c (SIs.cls (by assumption))) | exact Or.inr (grecv_at (BSb.at (by assumption)))) (by first | exact Or.inl (by decide) | exact Or.inr (gnewv_at (by assumption))) rfl (G_sbI hB') ?_; rintro _ _ ⟨rfl, rfl⟩
  refine GW.br rfl rfl (by first | omega | decide | (constructor <;> first | omega | decide)) (fun h8 => by first | (exfalso; omega) | exact absurd h8 (by decide)) (fun h8 => ?_)
  (repeat (first | (refine GW.pl rfl rfl ?_) | (refine GW.geti rfl rfl (by first | exact GHas.at (by assumption) rfl | exact GHas.k (by assumption) rfl rfl) (by first | assumption | rfl) (fun _ => ?_)) | (refine GW.getr rfl rfl (by first | exact GHas.at (by assumption) rfl | exact GHas.k (by assumption) rfl rfl) (by first | assumption | rfl) ?_)))
  refine GW.wf (fun hW1 => ?_)
  refine GW.c3 rfl rfl (by first | exact Or.inl rfl | exact Or.inr (grecv_at (by assumption)) | exact Or.inr (grecv_c (by assumption)) | exact Or.inr (grecv_c (SIs.cls (by assumption))) | exact Or.inr (grecv_at (BSb.at (by assumption)))) (by first | exact Or.inl (by decide) | exact Or.inr (gnewv_at (by assumption))) rfl (G_chars k6 k5 hi (by omega)) ?_
  rintro _ g2 ⟨rfl, hK2, hP2⟩
  have hna : n ≠ a1 := fun z => by rw [← z] at k6; have := k6.1; rw [k1.1] at this; cases this
  have hs := hK2.2.2.1 n (hW1.lt (by rw [k1.1]; decide)) hna
  have k1' : GAt g2 n 14 := ⟨hs.1.trans k1.1, k1.2⟩
  (repeat (refine GW.pl rfl rfl ?_))
  refine GW.puti rfl rfl k1' rfl ⟨by omega, by omega⟩ ?_
  (repeat (refine GW.pl rfl rfl ?_))
  refine GW.aret rfl rfl ⟨_, rfl, rfl, a1, cap1, ?_, ⟨k1', (gfi_nf rfl).trans ((hs.2.2.1 96).trans k2), ?_, (hs.2.2.2.1 95).trans k4, k5, hP2, k7⟩, ha1, ?_, hc1, ?_⟩
  · refine (hK.mono (S' := fun k => k = n ∨ k = a) (Nat.le_refl _) (fun _ _ z => Or.inl z)).trans (S2 := fun k => k = n ∨ k = a1) ((hK2.mono (S' := fun k => k = n ∨ k = a1) (Nat.le_refl _) (fun _ _ z => Or.inr z)).tr (Kp.fi rfl (Or.inl rfl))) (fun k hk z => ?_)
    rcases z with z | z
    · exact Or.inl z
    · rcases ha1 with z2 | z2
      · exact Or.inr (by omega)
      · omega
  · rw [List.length_append]; exact gfi_eq
  · have := hK2.1; show a1 < gsz g2; omega
  · rw [List.length_append]; omega
theorem G_sbAppI (h : BSb g n s a cap) {i : Int} (hi : 0 ≤ i ∧ i < 100) (hl : s.length < 29000) : GMr (d + 5) gk_J9_append_2 [aR n, aI i] g (fun r g' => r = vR (some n) ∧ SbQ g g' n a cap (s ++ dg i)) := by
  refine GM.of rfl rfl rfl ?_
  (repeat (refine GW.pl rfl rfl ?_))
  refine GW.c2 rfl rfl (by first | exact Or.inl rfl | exact Or.inr (grecv_at (by assumption)) | exact Or.inr (grecv_c (by assumption)) | exact Or.inr (grecv_c (SIs.cls (by assumption))) | exact Or.inr (grecv_at (BSb.at (by assumption)))) (by first | exact Or.inl (by decide) | exact Or.inr (gnewv_at (by assumption))) rfl (G_sbApI h hi hl) ?_
  rintro _ g' ⟨rfl, hq⟩
  (repeat (refine GW.pl rfl rfl ?_))
  exact GW.aret rfl rfl ⟨_, rfl, rfl, hq⟩
/-- Integer.toString, String.valueOf(int) -/
theorem G_intS {i : Int} (hi : 0 ≤ i ∧ i < 100) : GMr (d + 2) gk_J24_toString [aI i] g (fun r g' => SNew g g' r (dg i) 30) := by
  refine GMr.wf (fun hW => ?_)
  have hdl : (dg i).length ≤ 2 ∧ 1 ≤ (dg i).length := by rw [dg_len]; split <;> omega
  refine GM.of rfl rfl rfl ?_
  (repeat (refine GW.pl rfl rfl ?_))
  refine GW.c1 rfl rfl (by first | exact Or.inl rfl | exact Or.inr (grecv_at (by assumption)) | exact Or.inr (grecv_c (by assumption)) | exact Or.inr (grecv_c (SIs.cls (by assumption))) | exact Or.inr (grecv_at (BSb.at (by assumption)))) (by first | exact Or.inl (by decide) | exact Or.inr (gnewv_at (by assumption))) rfl (G_size hi) ?_; rintro _ _ ⟨rfl, rfl⟩
  (repeat (refine GW.pl rfl rfl ?_))
  refine GW.br rfl rfl (by first | omega | decide | (constructor <;> first | omega | decide)) (fun h1 => by first | (exfalso; omega) | exact absurd h1 (by decide)) (fun h1 => ?_)
  (repeat (refine GW.pl rfl rfl ?_))
  refine GW.arr rfl rfl (by omega) (fun b hb hAb => ?_)
  (repeat (refine GW.pl rfl rfl ?_))
  rw [Int.toNat_natCast] at hAb ⊢
  have hP : PIs (gnew g 101 (dg i).length (dg i).length) b [] (dg i).length := ⟨hAb.1, gnew_len hb, Nat.zero_le _, fun j hj => (by cases hj), fun x hx => (by cases hx)⟩
  have e0 : ((dg i).length : Int) = ((([] : List Int).length + (dg i).length : Nat) : Int) := by simp
  rw [e0]
  refine GW.c3 rfl rfl (by first | exact Or.inl rfl | exact Or.inr (grecv_at (by assumption)) | exact Or.inr (grecv_c (by assumption)) | exact Or.inr (grecv_c (SIs.cls (by assumption))) | exact Or.inr (grecv_at (BSb.at (by assumption)))) (by first | exact Or.inl (by decide) | exact Or.inr (gnewv_at (by assumption))) rfl (G_chars hP hAb.2 hi (by simp)) ?_
  rintro _ g1 ⟨rfl, hK, hP2⟩
  refine GW.wf (fun hW1 => ?_)
  (repeat (refine GW.pl rfl rfl ?_))
  refine GW.new (L := 4) (c := 13) rfl rfl rfl (fun q hq hAq => ?_)
  (repeat (refine GW.pl rfl rfl ?_))
  have hb1 : b < gsz g1 := by have := hK.1; have : gsz (gnew g 101 (dg i).length (dg i).length) = gsz g + 1 := rfl; omega
  refine GW.c3 rfl rfl (by first | exact Or.inl rfl | exact Or.inr (grecv_at (by assumption)) | exact Or.inr (grecv_c (by assumption)) | exact Or.inr (grecv_c (SIs.cls (by assumption))) | exact Or.inr (grecv_at (BSb.at (by assumption)))) (by first | exact Or.inl (by decide) | exact Or.inr (gnewv_at (by assumption))) rfl (G_sini hAq) ?_
  rintro _ _ ⟨rfl, rfl⟩
  have hsz : gsz g + 1 ≤ gsz g1 := hK.1
  refine GW.aret rfl rfl ⟨_, rfl, q, b, rfl, ?_, by omega, by show q < gsz g1 + 1; omega, by omega, by show b < gsz g1 + 1; omega, by omega, hAq.2, hAq.1, gfi_eq, ?_, ?_⟩
  · refine Kp.le ((((Kp.new hW).trans hK (fun k hk z => ?_)).tr (Kp.new hW1)).trans ((Kp.fr (S := fun k => k = q) (F := 91) (n := q) (r := some b) rfl rfl).tr (Kp.fi rfl rfl)) (fun k hk z => ?_)) ?_
    · omega
    · omega
    · omega
  · exact (gfr_eq : gfr (gsfr (gnew g1 13 0 4) 91 q (some b)) 91 q = some b)
  · have := hP2.same (gnew_same (c := 13) (L := 0) (s := 4) hb1)
    exact this
theorem G_intVal {i : Int} (hi : 0 ≤ i ∧ i < 100) : GMr (d + 3) gk_J10_valueOf_2 [aI i] g (fun r g' => SNew g g' r (dg i) 30) := by
  refine GM.of rfl rfl rfl ?_
  (repeat (refine GW.pl rfl rfl ?_))
  refine GW.c1 rfl rfl (by first | exact Or.inl rfl | exact Or.inr (grecv_at (by assumption)) | exact Or.inr (grecv_c (by assumption)) | exact Or.inr (grecv_c (SIs.cls (by assumption))) | exact Or.inr (grecv_at (BSb.at (by assumption)))) (by first | exact Or.inl (by decide) | exact Or.inr (gnewv_at (by assumption))) rfl (G_intS hi) ?_
  rintro r g' ⟨q, a, rfl, h⟩
  exact GW.aret rfl rfl ⟨_, rfl, q, a, rfl, h⟩
end Int9
