-- C
set_option maxRecDepth 100000
/-! LINEORDERS: made -/
/-- what stands while an object is made: objects (the newest first), the references of m -/
def InS (S0 S : BS) (m : Nat) (l : List (Nat × Obj)) (f : List (Nat × Nat)) (c : Nat) : Prop := (∀ x ∈ l, Ob S x.1 x.2 ∧ x.2 ≠ oNil) ∧ (l.map Prod.fst).Nodup ∧ (Ob S m (oOwn 1) ∧ ∀ x ∈ l, x.1 ≠ m ∧ S0.1 x.1 = oNil) ∧ (∀ x ∈ f, x.1 < 91 ∧ Fe S x.1 m (some x.2)) ∧ (∀ F, F ∈ [1, 4, 5, 11, 12, 14] → Fi S F m 0) ∧ Fr S0 S (fun k => k = m) c
section IN
variable {d n m q i a b e y cap c c2 k j pl B p F0 F : Nat} {S S' S0 S1 S2 : BS} {K : Nat → Nat} {l l1 l2 : List (Nat × Obj)} {f : List (Nat × Nat)} {o o' : Obj} {r : Option Nat} {xs : List (Option Nat)}
theorem InS.new (h : InS S0 S m l f c) (hN : Nw S S1 q o c2) (ho : o ≠ oNil) : InS S0 S1 m ((q, o) :: l) f (c + c2) := by
  obtain ⟨h1, h2, ⟨h3, h4⟩, h5, h6, h7⟩ := h
  have hz := hN.nil
  have e := h3.old (oNe rfl)
  refine ⟨fun x hx => ?_, ?_, ⟨h3.fr hN.fr ⟨oNe rfl, Sep.no⟩, fun x hx => ?_⟩, fun x hx => ⟨(h5 x hx).1, (h5 x hx).2.fr hN.fr ⟨⟨e, (h5 x hx).1⟩, Sep.no⟩⟩, fun F hF => ?_, ?_⟩
  · rcases List.mem_cons.mp hx with z | z
    · rw [z]; exact ⟨hN.ob, ho⟩
    · exact ⟨(h1 x z).1.fr hN.fr ⟨(h1 x z).2, Sep.no⟩, (h1 x z).2⟩
  · rw [List.map_cons, List.nodup_cons]
    refine ⟨fun w => ?_, h2⟩
    obtain ⟨x, hx, e9⟩ := List.mem_map.mp w
    exact (h1 x hx).1.old (h1 x hx).2 (by rw [e9]; exact hz)
  · rcases List.mem_cons.mp hx with z | z
    · rw [z]; exact ⟨fun w => e (by rw [← show q = m from w]; exact hz), Classical.byContradiction (fun z => h7.1 q z hz)⟩
    · exact h4 x z
  · exact (h6 F hF).fr hN.fr ⟨⟨e, by simp at hF; omega⟩, Sep.no⟩
  · exact (h7.tr hN.fr (fun _ _ z => z.elim)).w (fun _ _ z => z) (Nat.le_refl _)
theorem InS.upd (h : InS S0 S m (l1 ++ (q, o) :: l2) f c) (hF : Fr1 S S' q c2) (hq : Ob S' q o') (ho : o' ≠ oNil) : InS S0 S' m (l1 ++ (q, o') :: l2) f (c + c2) := by
  obtain ⟨h1, h2, ⟨h3, h4⟩, h5, h6, h7⟩ := h
  have e := h3.old (oNe rfl)
  obtain ⟨hqm, hz⟩ := h4 (q, o) (List.mem_append_right _ List.mem_cons_self)
  have hqm : q ≠ m := hqm
  have hz : S0.1 q = oNil := hz
  have sm : Sep S (fun k => k = q) m := fun z => hqm (by rw [show m = q from z])
  have oth : ∀ x, (x ∈ l1 ∨ x ∈ l2) → x.1 ≠ q := fun x hx z => by
    rw [List.map_append, List.map_cons, List.nodup_append] at h2
    obtain ⟨g1, g2, g3⟩ := h2
    rw [List.nodup_cons] at g2
    rcases hx with hx | hx
    · exact g3 x.1 (List.mem_map_of_mem hx) q List.mem_cons_self z
    · have h9 := List.mem_map_of_mem (f := Prod.fst) hx
      rw [z] at h9
      exact g2.1 h9
  have keep : ∀ x, (x ∈ l1 ∨ x ∈ l2) → Ob S' x.1 x.2 ∧ x.2 ≠ oNil := fun x hx => by
    have hm : x ∈ l1 ++ (q, o) :: l2 := by
      rcases hx with hx | hx
      · exact List.mem_append_left _ hx
      · exact List.mem_append_right _ (List.mem_cons_of_mem _ hx)
    exact ⟨(h1 x hm).1.fr hF ⟨(h1 x hm).2, oth x hx⟩, (h1 x hm).2⟩
  refine ⟨fun x hx => ?_, ?_, ⟨h3.fr hF ⟨oNe rfl, sm⟩, fun x hx => ?_⟩, fun x hx => ⟨(h5 x hx).1, (h5 x hx).2.fr hF ⟨⟨e, (h5 x hx).1⟩, sm⟩⟩, fun F hF9 => ?_, ?_⟩
  · rcases List.mem_append.mp hx with z | z
    · exact keep x (Or.inl z)
    · rcases List.mem_cons.mp z with z | z
      · rw [z]; exact ⟨hq, ho⟩
      · exact keep x (Or.inr z)
  · rw [List.map_append, List.map_cons] at h2 ⊢
    exact h2
  · rcases List.mem_append.mp hx with z | z
    · exact h4 x (List.mem_append_left _ z)
    · rcases List.mem_cons.mp z with z | z
      · rw [z]; exact ⟨hqm, hz⟩
      · exact h4 x (List.mem_append_right _ (List.mem_cons_of_mem _ z))
  · exact (h6 F hF9).fr hF ⟨⟨e, by simp at hF9; omega⟩, sm⟩
  · exact (h7.tr hF (fun k hk z => absurd hz (by rw [← show k = q from z]; exact hk))).w (fun _ _ z => z) (Nat.le_refl _)
theorem InS.put (h : InS S0 S m l f c) (hP : Pu S S' F m) (hv : Fe S' F m (some q)) (hF : F < 91) (hn : ∀ x ∈ f, x.1 ≠ F) (hi : F ∉ [1, 4, 5, 11, 12, 14]) : InS S0 S' m l ((F, q) :: f) c := by
  obtain ⟨h1, h2, ⟨h3, h4⟩, h5, h6, h7⟩ := h
  refine ⟨fun x hx => ⟨(h1 x hx).1.pu hP trivial, (h1 x hx).2⟩, h2, ⟨h3.pu hP trivial, h4⟩, fun x hx => ?_, fun F9 hF9 => (h6 F9 hF9).pu hP (Or.inl (fun z => hi (by rw [← z]; exact hF9))), (h7.tr hP.fr (fun _ _ z => z)).w (fun _ _ z => z) (Nat.le_refl _)⟩
  rcases List.mem_cons.mp hx with z | z
  · rw [z]; exact ⟨hF, hv⟩
  · exact ⟨(h5 x z).1, (h5 x z).2.pu hP (Or.inl (hn x z))⟩
theorem InS.ob (h : InS S0 S m l f c) (hx : (q, o) ∈ l) : Ob S q o := (h.1 _ hx).1
theorem InS.fe (h : InS S0 S m l f c) (hx : (F, q) ∈ f) : Fe S F m (some q) := (h.2.2.2.1 _ hx).2
theorem nodup_get {l : List Nat} (h : l.Nodup) (hi : i < l.length) (hj : j < l.length) (e : l.getD i 0 = l.getD j 0) : i = j := by
  rw [List.getD_eq_getElem?_getD, List.getElem?_eq_getElem hi, List.getD_eq_getElem?_getD, List.getElem?_eq_getElem hj] at e
  have e : l[i] = l[j] := e
  rcases Nat.lt_trichotomy i j with z | z | z
  · exact absurd e (List.pairwise_iff_getElem.mp h i j hi hj z)
  · exact z
  · exact absurd e.symm (List.pairwise_iff_getElem.mp h j i hj hi z)
def iK : List Nat := [23, 22, 21, 20, 15, 10, 9, 8, 7, 6, 3, 2, 0]
/-- addresses by numbers -/
def mkK (m : Nat) (as : List Nat) (i : Nat) : Nat := if i = 1 then m else as.getD (iK.idxOf i) 0
theorem mkK_inj {as : List Nat} (h : as.Nodup) (hl : as.length = 13) (hm : ∀ x ∈ as, x ≠ m) : KInj (mkK m as) := by
  have key : ∀ i ∈ kIx, i = 1 ∨ (iK.idxOf i < 13 ∧ iK.getD (iK.idxOf i) 0 = i) := by decide
  have inA : ∀ i, iK.idxOf i < 13 → as.getD (iK.idxOf i) 0 ∈ as := fun i hi => getD_mem (by omega)
  intro i j hi hj e
  unfold mkK at e
  by_cases zi : i = 1
  · by_cases zj : j = 1
    · rw [zi, zj]
    · rw [if_pos zi, if_neg zj] at e
      exact absurd e.symm (hm _ (inA j ((key j hj).resolve_left zj).1))
  · by_cases zj : j = 1
    · rw [if_neg zi, if_pos zj] at e
      exact absurd e (hm _ (inA i ((key i hi).resolve_left zi).1))
    · rw [if_neg zi, if_neg zj] at e
      obtain ⟨g1, g2⟩ := (key i hi).resolve_left zi
      obtain ⟨k1, k2⟩ := (key j hj).resolve_left zj
      have := nodup_get h (by omega) (by omega) e
      rw [← g2, ← k2, this]
def A0 : St := ([], 0, [], [], fun _ => [], fun _ => none, 0, false)
theorem L_init (hm : Ob S m (oOwn 1)) (hmk : 1000 ≤ m) (hz : ∀ F, F < 91 → Fi S F m 0 ∧ Fe S F m none) (hB : S.2.2.2 + 3000 ≤ 20000000) : BMr (d + 8) gk_X1_init [aR m] S (fun r S' => r = none ∧ (∃ K la, K 1 = m ∧ PwI S' K la [] (fun _ => none) A0 [] 0 0 (S.2.2.2 + 800)) ∧ Fr1 S S' m 800) := by
  have hI0 : InS S S m [] [] 0 := ⟨(fun x hx => by cases hx), List.nodup_nil, ⟨hm, (fun x hx => by cases hx)⟩, (fun x hx => by cases hx), fun F hF => (hz F (by simp at hF; omega)).1, Fr.rf⟩
  refine BM.of rfl rfl rfl ?_
  (repeat (refine BW.pl rfl rfl ?_))
  refine BW.oini rfl hmk (Nat.le_of_ble_eq_true rfl) ?_
  (repeat (refine BW.pl rfl rfl ?_))
  refine CW.arrI rfl rfl ⟨by decide, by decide⟩ (fun q0 Sa1 hN1 => ?_)
  have hI1n := hI0.new hN1 (oNe rfl)
  have hx1n := hI1n.2.2.1.1
  have hk1 := hN1.1
  first | (refine CW.putr rfl rfl (by assumption) rfl (by decide) (fun Sp0 hP0 hv0 => ?_)) | (refine CW.puti rfl (by assumption) rfl (by decide) (by first | exact Or.inl ⟨rfl, by first | omega | decide | (constructor <;> first | omega | decide)⟩ | exact Or.inr (Or.inl ⟨rfl, by first | omega | decide | (constructor <;> first | omega | decide)⟩) | exact Or.inr (Or.inr (Or.inl ⟨rfl, by first | omega | decide | (constructor <;> first | omega | decide)⟩)) | exact Or.inr (Or.inr (Or.inr ⟨rfl, by first | omega | decide | (constructor <;> first | omega | decide)⟩))) (fun Sp0 hP0 hv0 => ?_))
  have hI0p := hI1n.put hP0 hv0 (by decide) (by simp) (by decide)
  have hx0p := hI0p.2.2.1.1
  (repeat (refine BW.pl rfl rfl ?_))
  refine CW.arrR rfl rfl rfl ⟨by decide, by decide⟩ (fun q2 Sa2 hN2 => ?_)
  have hI2n := hI0p.new hN2 (oNe rfl)
  have hx2n := hI2n.2.2.1.1
  have hk2 := hN2.1
  first | (refine CW.putr rfl rfl (by assumption) rfl (by decide) (fun Sp2 hP2 hv2 => ?_)) | (refine CW.puti rfl (by assumption) rfl (by decide) (by first | exact Or.inl ⟨rfl, by first | omega | decide | (constructor <;> first | omega | decide)⟩ | exact Or.inr (Or.inl ⟨rfl, by first | omega | decide | (constructor <;> first | omega | decide)⟩) | exact Or.inr (Or.inr (Or.inl ⟨rfl, by first | omega | decide | (constructor <;> first | omega | decide)⟩)) | exact Or.inr (Or.inr (Or.inr ⟨rfl, by first | omega | decide | (constructor <;> first | omega | decide)⟩))) (fun Sp2 hP2 hv2 => ?_))
  have hI2p := hI2n.put hP2 hv2 (by decide) (by simp) (by decide)
  have hx2p := hI2p.2.2.1.1
  (iterate 1 (refine BW.pl rfl rfl ?_))
  refine CW.newJ (L := 4) (c := 18) rfl rfl rfl (fun q3 Sa3 hN3 => ?_)
  have hI3n := hI2p.new hN3 (oNe rfl)
  have hx3n := hI3n.2.2.1.1
  have hk3 := hN3.1
  (repeat (refine BW.pl rfl rfl ?_))
  refine CW.c1 rfl rfl (by first | exact Or.inl rfl | exact Or.inr (tagO (by assumption) (by rfl) (by rfl)) | exact Or.inr (tagO (AdrIs.ox (by assumption)) (by rfl) (by rfl)) | exact Or.inr (tagO (PatIs.ox (by assumption)) (by rfl) (by rfl)) | exact Or.inr (tagO (Or0.ox (by assumption)) (by rfl) (by rfl))) (by first | exact Or.inl (by decide) | exact Or.inr ⟨_, rfl, by assumption⟩) rfl (C_llNew (d := d + 3) (hI3n.ob List.mem_cons_self)) ?_
  rintro r Sb3 ⟨rfl, hob3, hF3⟩
  have hI3i := InS.upd (l1 := []) hI3n hF3 hob3 (oNe rfl)
  have hx3i := hI3i.2.2.1.1
  first | (refine CW.putr rfl rfl (by assumption) rfl (by decide) (fun Sp3 hP3 hv3 => ?_)) | (refine CW.puti rfl (by assumption) rfl (by decide) (by first | exact Or.inl ⟨rfl, by first | omega | decide | (constructor <;> first | omega | decide)⟩ | exact Or.inr (Or.inl ⟨rfl, by first | omega | decide | (constructor <;> first | omega | decide)⟩) | exact Or.inr (Or.inr (Or.inl ⟨rfl, by first | omega | decide | (constructor <;> first | omega | decide)⟩)) | exact Or.inr (Or.inr (Or.inr ⟨rfl, by first | omega | decide | (constructor <;> first | omega | decide)⟩))) (fun Sp3 hP3 hv3 => ?_))
  have hI3p := hI3i.put hP3 hv3 (by decide) (by simp) (by decide)
  have hx3p := hI3p.2.2.1.1
  (iterate 1 (refine BW.pl rfl rfl ?_))
  refine CW.newJ (L := 9) (c := 21) rfl rfl rfl (fun q6 Sa4 hN4 => ?_)
  have hI4n := hI3p.new hN4 (oNe rfl)
  have hx4n := hI4n.2.2.1.1
  have hk4 := hN4.1
  (repeat (refine BW.pl rfl rfl ?_))
  refine CW.c1 rfl rfl (by first | exact Or.inl rfl | exact Or.inr (tagO (by assumption) (by rfl) (by rfl)) | exact Or.inr (tagO (AdrIs.ox (by assumption)) (by rfl) (by rfl)) | exact Or.inr (tagO (PatIs.ox (by assumption)) (by rfl) (by rfl)) | exact Or.inr (tagO (Or0.ox (by assumption)) (by rfl) (by rfl))) (by first | exact Or.inl (by decide) | exact Or.inr ⟨_, rfl, by assumption⟩) rfl (C_tmNew (d := d + 5) (hI4n.ob List.mem_cons_self)) ?_
  rintro r Sb4 ⟨rfl, hob4, hF4⟩
  have hI4i := InS.upd (l1 := []) hI4n hF4 hob4 (oNe rfl)
  have hx4i := hI4i.2.2.1.1
  first | (refine CW.putr rfl rfl (by assumption) rfl (by decide) (fun Sp6 hP6 hv6 => ?_)) | (refine CW.puti rfl (by assumption) rfl (by decide) (by first | exact Or.inl ⟨rfl, by first | omega | decide | (constructor <;> first | omega | decide)⟩ | exact Or.inr (Or.inl ⟨rfl, by first | omega | decide | (constructor <;> first | omega | decide)⟩) | exact Or.inr (Or.inr (Or.inl ⟨rfl, by first | omega | decide | (constructor <;> first | omega | decide)⟩)) | exact Or.inr (Or.inr (Or.inr ⟨rfl, by first | omega | decide | (constructor <;> first | omega | decide)⟩))) (fun Sp6 hP6 hv6 => ?_))
  have hI6p := hI4i.put hP6 hv6 (by decide) (by simp) (by decide)
  have hx6p := hI6p.2.2.1.1
  (iterate 1 (refine BW.pl rfl rfl ?_))
  refine CW.newJ (L := 3) (c := 16) rfl rfl rfl (fun q7 Sa5 hN5 => ?_)
  have hI5n := hI6p.new hN5 (oNe rfl)
  have hx5n := hI5n.2.2.1.1
  have hk5 := hN5.1
  (repeat (refine BW.pl rfl rfl ?_))
  refine CW.c1 rfl rfl (by first | exact Or.inl rfl | exact Or.inr (tagO (by assumption) (by rfl) (by rfl)) | exact Or.inr (tagO (AdrIs.ox (by assumption)) (by rfl) (by rfl)) | exact Or.inr (tagO (PatIs.ox (by assumption)) (by rfl) (by rfl)) | exact Or.inr (tagO (Or0.ox (by assumption)) (by rfl) (by rfl))) (by first | exact Or.inl (by decide) | exact Or.inr ⟨_, rfl, by assumption⟩) rfl (C_alNew (d := d + 4) (hI5n.ob List.mem_cons_self)) ?_
  rintro r Sb5 ⟨rfl, hob5, hF5⟩
  have hI5i := InS.upd (l1 := []) hI5n hF5 hob5 (oNe rfl)
  have hx5i := hI5i.2.2.1.1
  first | (refine CW.putr rfl rfl (by assumption) rfl (by decide) (fun Sp7 hP7 hv7 => ?_)) | (refine CW.puti rfl (by assumption) rfl (by decide) (by first | exact Or.inl ⟨rfl, by first | omega | decide | (constructor <;> first | omega | decide)⟩ | exact Or.inr (Or.inl ⟨rfl, by first | omega | decide | (constructor <;> first | omega | decide)⟩) | exact Or.inr (Or.inr (Or.inl ⟨rfl, by first | omega | decide | (constructor <;> first | omega | decide)⟩)) | exact Or.inr (Or.inr (Or.inr ⟨rfl, by first | omega | decide | (constructor <;> first | omega | decide)⟩))) (fun Sp7 hP7 hv7 => ?_))
  have hI7p := hI5i.put hP7 hv7 (by decide) (by simp) (by decide)
  have hx7p := hI7p.2.2.1.1
  (iterate 1 (refine BW.pl rfl rfl ?_))
  refine CW.newJ (L := 3) (c := 16) rfl rfl rfl (fun q8 Sa6 hN6 => ?_)
  have hI6n := hI7p.new hN6 (oNe rfl)
  have hx6n := hI6n.2.2.1.1
  have hk6 := hN6.1
  (repeat (refine BW.pl rfl rfl ?_))
  refine CW.c1 rfl rfl (by first | exact Or.inl rfl | exact Or.inr (tagO (by assumption) (by rfl) (by rfl)) | exact Or.inr (tagO (AdrIs.ox (by assumption)) (by rfl) (by rfl)) | exact Or.inr (tagO (PatIs.ox (by assumption)) (by rfl) (by rfl)) | exact Or.inr (tagO (Or0.ox (by assumption)) (by rfl) (by rfl))) (by first | exact Or.inl (by decide) | exact Or.inr ⟨_, rfl, by assumption⟩) rfl (C_alNew (d := d + 4) (hI6n.ob List.mem_cons_self)) ?_
  rintro r Sb6 ⟨rfl, hob6, hF6⟩
  have hI6i := InS.upd (l1 := []) hI6n hF6 hob6 (oNe rfl)
  have hx6i := hI6i.2.2.1.1
  first | (refine CW.putr rfl rfl (by assumption) rfl (by decide) (fun Sp8 hP8 hv8 => ?_)) | (refine CW.puti rfl (by assumption) rfl (by decide) (by first | exact Or.inl ⟨rfl, by first | omega | decide | (constructor <;> first | omega | decide)⟩ | exact Or.inr (Or.inl ⟨rfl, by first | omega | decide | (constructor <;> first | omega | decide)⟩) | exact Or.inr (Or.inr (Or.inl ⟨rfl, by first | omega | decide | (constructor <;> first | omega | decide)⟩)) | exact Or.inr (Or.inr (Or.inr ⟨rfl, by first | omega | decide | (constructor <;> first | omega | decide)⟩))) (fun Sp8 hP8 hv8 => ?_))
  have hI8p := hI6i.put hP8 hv8 (by decide) (by simp) (by decide)
  have hx8p := hI8p.2.2.1.1
  (iterate 1 (refine BW.pl rfl rfl ?_))
  refine CW.newJ (L := 3) (c := 16) rfl rfl rfl (fun q9 Sa7 hN7 => ?_)
  have hI7n := hI8p.new hN7 (oNe rfl)
  have hx7n := hI7n.2.2.1.1
  have hk7 := hN7.1
  (repeat (refine BW.pl rfl rfl ?_))
  refine CW.c1 rfl rfl (by first | exact Or.inl rfl | exact Or.inr (tagO (by assumption) (by rfl) (by rfl)) | exact Or.inr (tagO (AdrIs.ox (by assumption)) (by rfl) (by rfl)) | exact Or.inr (tagO (PatIs.ox (by assumption)) (by rfl) (by rfl)) | exact Or.inr (tagO (Or0.ox (by assumption)) (by rfl) (by rfl))) (by first | exact Or.inl (by decide) | exact Or.inr ⟨_, rfl, by assumption⟩) rfl (C_alNew (d := d + 4) (hI7n.ob List.mem_cons_self)) ?_
  rintro r Sb7 ⟨rfl, hob7, hF7⟩
  have hI7i := InS.upd (l1 := []) hI7n hF7 hob7 (oNe rfl)
  have hx7i := hI7i.2.2.1.1
  first | (refine CW.putr rfl rfl (by assumption) rfl (by decide) (fun Sp9 hP9 hv9 => ?_)) | (refine CW.puti rfl (by assumption) rfl (by decide) (by first | exact Or.inl ⟨rfl, by first | omega | decide | (constructor <;> first | omega | decide)⟩ | exact Or.inr (Or.inl ⟨rfl, by first | omega | decide | (constructor <;> first | omega | decide)⟩) | exact Or.inr (Or.inr (Or.inl ⟨rfl, by first | omega | decide | (constructor <;> first | omega | decide)⟩)) | exact Or.inr (Or.inr (Or.inr ⟨rfl, by first | omega | decide | (constructor <;> first | omega | decide)⟩))) (fun Sp9 hP9 hv9 => ?_))
  have hI9p := hI7i.put hP9 hv9 (by decide) (by simp) (by decide)
  have hx9p := hI9p.2.2.1.1
  (iterate 1 (refine BW.pl rfl rfl ?_))
  refine CW.newJ (L := 3) (c := 15) rfl rfl rfl (fun q10 Sa8 hN8 => ?_)
  have hI8n := hI9p.new hN8 (oNe rfl)
  have hx8n := hI8n.2.2.1.1
  have hk8 := hN8.1
  (repeat (refine BW.pl rfl rfl ?_))
  refine CW.c1 rfl rfl (by first | exact Or.inl rfl | exact Or.inr (tagO (by assumption) (by rfl) (by rfl)) | exact Or.inr (tagO (AdrIs.ox (by assumption)) (by rfl) (by rfl)) | exact Or.inr (tagO (PatIs.ox (by assumption)) (by rfl) (by rfl)) | exact Or.inr (tagO (Or0.ox (by assumption)) (by rfl) (by rfl))) (by first | exact Or.inl (by decide) | exact Or.inr ⟨_, rfl, by assumption⟩) rfl (C_adNew (d := d + 5) (hI8n.ob List.mem_cons_self)) ?_
  rintro r Sb8 ⟨rfl, hob8, hF8⟩
  have hI8i := InS.upd (l1 := []) hI8n hF8 hob8 (oNe rfl)
  have hx8i := hI8i.2.2.1.1
  first | (refine CW.putr rfl rfl (by assumption) rfl (by decide) (fun Sp10 hP10 hv10 => ?_)) | (refine CW.puti rfl (by assumption) rfl (by decide) (by first | exact Or.inl ⟨rfl, by first | omega | decide | (constructor <;> first | omega | decide)⟩ | exact Or.inr (Or.inl ⟨rfl, by first | omega | decide | (constructor <;> first | omega | decide)⟩) | exact Or.inr (Or.inr (Or.inl ⟨rfl, by first | omega | decide | (constructor <;> first | omega | decide)⟩)) | exact Or.inr (Or.inr (Or.inr ⟨rfl, by first | omega | decide | (constructor <;> first | omega | decide)⟩))) (fun Sp10 hP10 hv10 => ?_))
  have hI10p := hI8i.put hP10 hv10 (by decide) (by simp) (by decide)
  have hx10p := hI10p.2.2.1.1
  (iterate 1 (refine BW.pl rfl rfl ?_))
  refine CW.newJ (L := 4) (c := 14) rfl rfl rfl (fun q15 Sa9 hN9 => ?_)
  have hI9n := hI10p.new hN9 (oNe rfl)
  have hx9n := hI9n.2.2.1.1
  have hk9 := hN9.1
  (repeat (refine BW.pl rfl rfl ?_))
  refine CW.c1 rfl rfl (by first | exact Or.inl rfl | exact Or.inr (tagO (by assumption) (by rfl) (by rfl)) | exact Or.inr (tagO (AdrIs.ox (by assumption)) (by rfl) (by rfl)) | exact Or.inr (tagO (PatIs.ox (by assumption)) (by rfl) (by rfl)) | exact Or.inr (tagO (Or0.ox (by assumption)) (by rfl) (by rfl))) (by first | exact Or.inl (by decide) | exact Or.inr ⟨_, rfl, by assumption⟩) rfl (C_sbNew (d := d + 5) (hI9n.ob List.mem_cons_self)) ?_
  rintro r Sb9 ⟨rfl, hob9, hF9⟩
  have hI9i := InS.upd (l1 := []) hI9n hF9 hob9 (oNe rfl)
  have hx9i := hI9i.2.2.1.1
  first | (refine CW.putr rfl rfl (by assumption) rfl (by decide) (fun Sp15 hP15 hv15 => ?_)) | (refine CW.puti rfl (by assumption) rfl (by decide) (by first | exact Or.inl ⟨rfl, by first | omega | decide | (constructor <;> first | omega | decide)⟩ | exact Or.inr (Or.inl ⟨rfl, by first | omega | decide | (constructor <;> first | omega | decide)⟩) | exact Or.inr (Or.inr (Or.inl ⟨rfl, by first | omega | decide | (constructor <;> first | omega | decide)⟩)) | exact Or.inr (Or.inr (Or.inr ⟨rfl, by first | omega | decide | (constructor <;> first | omega | decide)⟩))) (fun Sp15 hP15 hv15 => ?_))
  have hI15p := hI9i.put hP15 hv15 (by decide) (by simp) (by decide)
  have hx15p := hI15p.2.2.1.1
  (iterate 2 (refine BW.pl rfl rfl ?_))
  have c0 : (0 : Nat) = 0 := rfl
  (repeat (refine BW.pl rfl rfl ?_))
  refine BW.br rfl rfl (by first | omega | decide | (constructor <;> first | omega | decide)) (fun w0 => by first | (exfalso; omega) | exact absurd w0 (by decide)) (fun w0 => ?_)
  have e90 := hI15p.fe (F := 9) (q := q9) (by simp)
  (repeat (first | (refine BW.pl rfl rfl ?_) | (refine CW.geti rfl rfl (by assumption) rfl rfl (by assumption) (fun _ => ?_)) | (refine CW.getr rfl rfl (by assumption) rfl rfl (by assumption) ?_)))
  refine CW.newJ (L := 3) (c := 16) rfl rfl rfl (fun f0 Sa10 hN10 => ?_)
  have hI10n := hI15p.new hN10 (oNe rfl)
  have hx10n := hI10n.2.2.1.1
  have hk10 := hN10.1
  (repeat (refine BW.pl rfl rfl ?_))
  refine CW.c1 rfl rfl (by first | exact Or.inl rfl | exact Or.inr (tagO (by assumption) (by rfl) (by rfl)) | exact Or.inr (tagO (AdrIs.ox (by assumption)) (by rfl) (by rfl)) | exact Or.inr (tagO (PatIs.ox (by assumption)) (by rfl) (by rfl)) | exact Or.inr (tagO (Or0.ox (by assumption)) (by rfl) (by rfl))) (by first | exact Or.inl (by decide) | exact Or.inr ⟨_, rfl, by assumption⟩) rfl (C_alNew (d := d + 4) (hI10n.ob List.mem_cons_self)) ?_
  rintro r Sb10 ⟨rfl, hob10, hF10⟩
  have hI10i := InS.upd (l1 := []) hI10n hF10 hob10 (oNe rfl)
  have hx10i := hI10i.2.2.1.1
  have ht0 := hI10i.2.2.2.2.2.2.2
  have o90 := hI10i.ob (q := q9) (o := oAl [] 0) (by simp)
  refine CW.c2 rfl rfl (by first | exact Or.inl rfl | exact Or.inr (tagO (by assumption) (by rfl) (by rfl)) | exact Or.inr (tagO (AdrIs.ox (by assumption)) (by rfl) (by rfl)) | exact Or.inr (tagO (PatIs.ox (by assumption)) (by rfl) (by rfl)) | exact Or.inr (tagO (Or0.ox (by assumption)) (by rfl) (by rfl))) (by first | exact Or.inl (by decide) | exact Or.inr ⟨_, rfl, by assumption⟩) rfl (C_alAdd (d := d + 1) (hI10i.ob (q := q9) (o := oAl [] 0) (by simp)) (vOk_o (hI10i.ob (q := f0) (o := oAl [] 0) List.mem_cons_self) rfl) (by simp) (by omega)) ?_
  rintro r Sc0 ⟨rfl, cp0, hoc0, hFc0, hca0, hcb0⟩
  simp only [List.length_append, List.length_cons, List.length_nil] at hcb0
  have hI0c := InS.upd (l1 := [(f0, oAl [] 0), (q15, oSb [] 16), (q10, oAd [] 17)]) (o' := oAl [some f0] cp0) hI10i hFc0 hoc0 (oNe rfl)
  have hx0c := hI0c.2.2.1.1
  (iterate 3 (refine BW.pl rfl rfl ?_))
  (repeat (refine BW.pl rfl rfl ?_))
  refine BW.br rfl rfl (by first | omega | decide | (constructor <;> first | omega | decide)) (fun w1 => by first | (exfalso; omega) | exact absurd w1 (by decide)) (fun w1 => ?_)
  have e91 := hI0c.fe (F := 9) (q := q9) (by simp)
  (repeat (first | (refine BW.pl rfl rfl ?_) | (refine CW.geti rfl rfl (by assumption) rfl rfl (by assumption) (fun _ => ?_)) | (refine CW.getr rfl rfl (by assumption) rfl rfl (by assumption) ?_)))
  refine CW.newJ (L := 3) (c := 16) rfl rfl rfl (fun f1 Sa11 hN11 => ?_)
  have hI11n := hI0c.new hN11 (oNe rfl)
  have hx11n := hI11n.2.2.1.1
  have hk11 := hN11.1
  (repeat (refine BW.pl rfl rfl ?_))
  refine CW.c1 rfl rfl (by first | exact Or.inl rfl | exact Or.inr (tagO (by assumption) (by rfl) (by rfl)) | exact Or.inr (tagO (AdrIs.ox (by assumption)) (by rfl) (by rfl)) | exact Or.inr (tagO (PatIs.ox (by assumption)) (by rfl) (by rfl)) | exact Or.inr (tagO (Or0.ox (by assumption)) (by rfl) (by rfl))) (by first | exact Or.inl (by decide) | exact Or.inr ⟨_, rfl, by assumption⟩) rfl (C_alNew (d := d + 4) (hI11n.ob List.mem_cons_self)) ?_
  rintro r Sb11 ⟨rfl, hob11, hF11⟩
  have hI11i := InS.upd (l1 := []) hI11n hF11 hob11 (oNe rfl)
  have hx11i := hI11i.2.2.1.1
  have ht1 := hI11i.2.2.2.2.2.2.2
  have o91 := hI11i.ob (q := q9) (o := oAl [some f0] cp0) (by simp)
  refine CW.c2 rfl rfl (by first | exact Or.inl rfl | exact Or.inr (tagO (by assumption) (by rfl) (by rfl)) | exact Or.inr (tagO (AdrIs.ox (by assumption)) (by rfl) (by rfl)) | exact Or.inr (tagO (PatIs.ox (by assumption)) (by rfl) (by rfl)) | exact Or.inr (tagO (Or0.ox (by assumption)) (by rfl) (by rfl))) (by first | exact Or.inl (by decide) | exact Or.inr ⟨_, rfl, by assumption⟩) rfl (C_alAdd (d := d + 1) (hI11i.ob (q := q9) (o := oAl [some f0] cp0) (by simp)) (vOk_o (hI11i.ob (q := f1) (o := oAl [] 0) List.mem_cons_self) rfl) (by simp) (by omega)) ?_
  rintro r Sc1 ⟨rfl, cp1, hoc1, hFc1, hca1, hcb1⟩
  simp only [List.length_append, List.length_cons, List.length_nil] at hcb1
  have hI1c := InS.upd (l1 := [(f1, oAl [] 0), (f0, oAl [] 0), (q15, oSb [] 16), (q10, oAd [] 17)]) (o' := oAl [some f0, some f1] cp1) hI11i hFc1 hoc1 (oNe rfl)
  have hx1c := hI1c.2.2.1.1
  (iterate 3 (refine BW.pl rfl rfl ?_))
  (repeat (refine BW.pl rfl rfl ?_))
  refine BW.br rfl rfl (by first | omega | decide | (constructor <;> first | omega | decide)) (fun w2 => by first | (exfalso; omega) | exact absurd w2 (by decide)) (fun w2 => ?_)
  have e92 := hI1c.fe (F := 9) (q := q9) (by simp)
  (repeat (first | (refine BW.pl rfl rfl ?_) | (refine CW.geti rfl rfl (by assumption) rfl rfl (by assumption) (fun _ => ?_)) | (refine CW.getr rfl rfl (by assumption) rfl rfl (by assumption) ?_)))
  refine CW.newJ (L := 3) (c := 16) rfl rfl rfl (fun f2 Sa12 hN12 => ?_)
  have hI12n := hI1c.new hN12 (oNe rfl)
  have hx12n := hI12n.2.2.1.1
  have hk12 := hN12.1
  (repeat (refine BW.pl rfl rfl ?_))
  refine CW.c1 rfl rfl (by first | exact Or.inl rfl | exact Or.inr (tagO (by assumption) (by rfl) (by rfl)) | exact Or.inr (tagO (AdrIs.ox (by assumption)) (by rfl) (by rfl)) | exact Or.inr (tagO (PatIs.ox (by assumption)) (by rfl) (by rfl)) | exact Or.inr (tagO (Or0.ox (by assumption)) (by rfl) (by rfl))) (by first | exact Or.inl (by decide) | exact Or.inr ⟨_, rfl, by assumption⟩) rfl (C_alNew (d := d + 4) (hI12n.ob List.mem_cons_self)) ?_
  rintro r Sb12 ⟨rfl, hob12, hF12⟩
  have hI12i := InS.upd (l1 := []) hI12n hF12 hob12 (oNe rfl)
  have hx12i := hI12i.2.2.1.1
  have ht2 := hI12i.2.2.2.2.2.2.2
  have o92 := hI12i.ob (q := q9) (o := oAl [some f0, some f1] cp1) (by simp)
  refine CW.c2 rfl rfl (by first | exact Or.inl rfl | exact Or.inr (tagO (by assumption) (by rfl) (by rfl)) | exact Or.inr (tagO (AdrIs.ox (by assumption)) (by rfl) (by rfl)) | exact Or.inr (tagO (PatIs.ox (by assumption)) (by rfl) (by rfl)) | exact Or.inr (tagO (Or0.ox (by assumption)) (by rfl) (by rfl))) (by first | exact Or.inl (by decide) | exact Or.inr ⟨_, rfl, by assumption⟩) rfl (C_alAdd (d := d + 1) (hI12i.ob (q := q9) (o := oAl [some f0, some f1] cp1) (by simp)) (vOk_o (hI12i.ob (q := f2) (o := oAl [] 0) List.mem_cons_self) rfl) (by simp) (by omega)) ?_
  rintro r Sc2 ⟨rfl, cp2, hoc2, hFc2, hca2, hcb2⟩
  simp only [List.length_append, List.length_cons, List.length_nil] at hcb2
  have hI2c := InS.upd (l1 := [(f2, oAl [] 0), (f1, oAl [] 0), (f0, oAl [] 0), (q15, oSb [] 16), (q10, oAd [] 17)]) (o' := oAl [some f0, some f1, some f2] cp2) hI12i hFc2 hoc2 (oNe rfl)
  have hx2c := hI2c.2.2.1.1
  (iterate 3 (refine BW.pl rfl rfl ?_))
  (repeat (refine BW.pl rfl rfl ?_))
  refine BW.br rfl rfl (by first | omega | decide | (constructor <;> first | omega | decide)) (fun w3 => by first | (exfalso; omega) | exact absurd w3 (by decide)) (fun w3 => ?_)
  have e93 := hI2c.fe (F := 9) (q := q9) (by simp)
  (repeat (first | (refine BW.pl rfl rfl ?_) | (refine CW.geti rfl rfl (by assumption) rfl rfl (by assumption) (fun _ => ?_)) | (refine CW.getr rfl rfl (by assumption) rfl rfl (by assumption) ?_)))
  refine CW.newJ (L := 3) (c := 16) rfl rfl rfl (fun f3 Sa13 hN13 => ?_)
  have hI13n := hI2c.new hN13 (oNe rfl)
  have hx13n := hI13n.2.2.1.1
  have hk13 := hN13.1
  (repeat (refine BW.pl rfl rfl ?_))
  refine CW.c1 rfl rfl (by first | exact Or.inl rfl | exact Or.inr (tagO (by assumption) (by rfl) (by rfl)) | exact Or.inr (tagO (AdrIs.ox (by assumption)) (by rfl) (by rfl)) | exact Or.inr (tagO (PatIs.ox (by assumption)) (by rfl) (by rfl)) | exact Or.inr (tagO (Or0.ox (by assumption)) (by rfl) (by rfl))) (by first | exact Or.inl (by decide) | exact Or.inr ⟨_, rfl, by assumption⟩) rfl (C_alNew (d := d + 4) (hI13n.ob List.mem_cons_self)) ?_
  rintro r Sb13 ⟨rfl, hob13, hF13⟩
  have hI13i := InS.upd (l1 := []) hI13n hF13 hob13 (oNe rfl)
  have hx13i := hI13i.2.2.1.1
  have ht3 := hI13i.2.2.2.2.2.2.2
  have o93 := hI13i.ob (q := q9) (o := oAl [some f0, some f1, some f2] cp2) (by simp)
  refine CW.c2 rfl rfl (by first | exact Or.inl rfl | exact Or.inr (tagO (by assumption) (by rfl) (by rfl)) | exact Or.inr (tagO (AdrIs.ox (by assumption)) (by rfl) (by rfl)) | exact Or.inr (tagO (PatIs.ox (by assumption)) (by rfl) (by rfl)) | exact Or.inr (tagO (Or0.ox (by assumption)) (by rfl) (by rfl))) (by first | exact Or.inl (by decide) | exact Or.inr ⟨_, rfl, by assumption⟩) rfl (C_alAdd (d := d + 1) (hI13i.ob (q := q9) (o := oAl [some f0, some f1, some f2] cp2) (by simp)) (vOk_o (hI13i.ob (q := f3) (o := oAl [] 0) List.mem_cons_self) rfl) (by simp) (by omega)) ?_
  rintro r Sc3 ⟨rfl, cp3, hoc3, hFc3, hca3, hcb3⟩
  simp only [List.length_append, List.length_cons, List.length_nil] at hcb3
  have hI3c := InS.upd (l1 := [(f3, oAl [] 0), (f2, oAl [] 0), (f1, oAl [] 0), (f0, oAl [] 0), (q15, oSb [] 16), (q10, oAd [] 17)]) (o' := oAl [some f0, some f1, some f2, some f3] cp3) hI13i hFc3 hoc3 (oNe rfl)
  have hx3c := hI3c.2.2.1.1
  (iterate 3 (refine BW.pl rfl rfl ?_))
  (repeat (refine BW.pl rfl rfl ?_))
  refine BW.br rfl rfl (by first | omega | decide | (constructor <;> first | omega | decide)) (fun wz => ?_) (fun wz => by first | (exfalso; omega) | exact absurd wz (by decide))
  obtain ⟨g1, g2, ⟨g3, g4⟩, g5, g6, g7⟩ := hI3c
  have hnd : [f3, f2, f1, f0, q15, q10, q9, q8, q7, q6, q3, q2, q0].Nodup := g2
  have hK := mkK_inj (m := m) hnd rfl (fun x hx => by obtain ⟨y, hy, e⟩ := List.mem_map.mp (show x ∈ List.map Prod.fst [(f3, oAl [] 0), (f2, oAl [] 0), (f1, oAl [] 0), (f0, oAl [] 0), (q15, oSb [] 16), (q10, oAd [] 17), (q9, oAl [some f0, some f1, some f2, some f3] cp3), (q8, oAl [] 0), (q7, oAl [] 0), (q6, oTm (fun _ => none)), (q3, oLl [] 0), (q2, oRa 105 (List.replicate 4 none)), (q0, oIa (List.replicate 60 0))] from hx); rw [← e]; exact (g4 y hy).1)
  generalize hKe : mkK m [f3, f2, f1, f0, q15, q10, q9, q8, q7, q6, q3, q2, q0] = K at hK
  have k1 : K 1 = m := by rw [← hKe]; rfl
  have k23 : K 23 = f3 := by rw [← hKe]; rfl
  have k22 : K 22 = f2 := by rw [← hKe]; rfl
  have k21 : K 21 = f1 := by rw [← hKe]; rfl
  have k20 : K 20 = f0 := by rw [← hKe]; rfl
  have k15 : K 15 = q15 := by rw [← hKe]; rfl
  have k10 : K 10 = q10 := by rw [← hKe]; rfl
  have k9 : K 9 = q9 := by rw [← hKe]; rfl
  have k8 : K 8 = q8 := by rw [← hKe]; rfl
  have k7 : K 7 = q7 := by rw [← hKe]; rfl
  have k6 : K 6 = q6 := by rw [← hKe]; rfl
  have k3 : K 3 = q3 := by rw [← hKe]; rfl
  have k2 : K 2 = q2 := by rw [← hKe]; rfl
  have k0 : K 0 = q0 := by rw [← hKe]; rfl
  have o_f3 : Ob _ f3 (oAl [] 0) := (g1 (f3, oAl [] 0) (by simp)).1
  have o_f2 : Ob _ f2 (oAl [] 0) := (g1 (f2, oAl [] 0) (by simp)).1
  have o_f1 : Ob _ f1 (oAl [] 0) := (g1 (f1, oAl [] 0) (by simp)).1
  have o_f0 : Ob _ f0 (oAl [] 0) := (g1 (f0, oAl [] 0) (by simp)).1
  have o_q15 : Ob _ q15 (oSb [] 16) := (g1 (q15, oSb [] 16) (by simp)).1
  have o_q10 : Ob _ q10 (oAd [] 17) := (g1 (q10, oAd [] 17) (by simp)).1
  have o_q9 : Ob _ q9 (oAl [some f0, some f1, some f2, some f3] cp3) := (g1 (q9, oAl [some f0, some f1, some f2, some f3] cp3) (by simp)).1
  have o_q8 : Ob _ q8 (oAl [] 0) := (g1 (q8, oAl [] 0) (by simp)).1
  have o_q7 : Ob _ q7 (oAl [] 0) := (g1 (q7, oAl [] 0) (by simp)).1
  have o_q6 : Ob _ q6 (oTm (fun _ => none)) := (g1 (q6, oTm (fun _ => none)) (by simp)).1
  have o_q3 : Ob _ q3 (oLl [] 0) := (g1 (q3, oLl [] 0) (by simp)).1
  have o_q2 : Ob _ q2 (oRa 105 (List.replicate 4 none)) := (g1 (q2, oRa 105 (List.replicate 4 none)) (by simp)).1
  have o_q0 : Ob _ q0 (oIa (List.replicate 60 0)) := (g1 (q0, oIa (List.replicate 60 0)) (by simp)).1
  refine BW.ret rfl rfl ⟨_, rfl, rfl, ⟨K, fun _ => 0, k1, 17, by decide, ⟨⟨⟨hK, by rw [k1]; exact g3, fun F hF => ?_, fun i hi => ?_, cp3, by rw [k9, k20, k21, k22, k23]; exact o_q9⟩, ⟨0, by rw [k3]; exact o_q3⟩, ⟨⟨fun x h1 h2 => absurd h2 (by show ¬ x < 0; omega), fun x y h1 h2 => absurd h2 (by show ¬ x < 0; omega)⟩, ⟨by decide, by decide⟩, fun x hx => by cases hx⟩, ⟨by rw [k1]; exact g6 5 (by decide), by rw [k1]; exact g6 4 (by decide), by rw [k1]; exact g6 14 (by decide)⟩, ⟨fun _ => none, by rw [k6]; exact o_q6, fun j hj => ⟨rfl, fun x z => by cases z⟩⟩, fun i => if i = 15 then 16 else 0, fun i hi => ?_, ⟨⟨[], by rw [k15]; exact o_q15⟩, by decide⟩, ?_, by omega⟩, fun x hx => by cases hx⟩, ⟨[], by rw [k10]; exact o_q10, rfl, fun j hj => absurd hj (Nat.not_lt_zero _)⟩, ⟨?_, ⟨_, by rw [k0]; exact o_q0, rfl, Nat.zero_le _, fun j hj => absurd hj (Nat.not_lt_zero _), by rw [k1]; exact g6 1 (by decide)⟩, _, by rw [k2]; exact o_q2, rfl, fun k hk => ⟨fun _ => ?_, fun s z => by cases z⟩⟩, by rw [k1]; exact g6 11 (by decide), by rw [k1]; exact g6 12 (by decide)⟩, g7.w (fun _ _ z => z) (by omega)⟩
  · rw [k1]
    simp at hF
    rcases hF with rfl | rfl | rfl | rfl | rfl | rfl | rfl | rfl | rfl
    · rw [k0]; exact (g5 (0, q0) (by simp)).2
    · rw [k2]; exact (g5 (2, q2) (by simp)).2
    · rw [k3]; exact (g5 (3, q3) (by simp)).2
    · rw [k6]; exact (g5 (6, q6) (by simp)).2
    · rw [k7]; exact (g5 (7, q7) (by simp)).2
    · rw [k8]; exact (g5 (8, q8) (by simp)).2
    · rw [k9]; exact (g5 (9, q9) (by simp)).2
    · rw [k10]; exact (g5 (10, q10) (by simp)).2
    · rw [k15]; exact (g5 (15, q15) (by simp)).2
  · simp at hi
    rcases hi with rfl | rfl | rfl
    · rw [k0]; exact o_q0.old (oNe rfl)
    · rw [k2]; exact o_q2.old (oNe rfl)
    · rw [k10]; exact o_q10.old (oNe rfl)
  · simp [lIx] at hi
    rcases hi with rfl | rfl | rfl | rfl | rfl | rfl
    · rw [k7]; exact ⟨[], o_q7, ⟨rfl, fun j hj => absurd hj (Nat.not_lt_zero _)⟩, by decide⟩
    · rw [k8]; exact ⟨[], o_q8, ⟨rfl, fun j hj => absurd hj (Nat.not_lt_zero _)⟩, by decide⟩
    · rw [k20]; exact ⟨[], o_f0, ⟨rfl, fun j hj => absurd hj (Nat.not_lt_zero _)⟩, by decide⟩
    · rw [k21]; exact ⟨[], o_f1, ⟨rfl, fun j hj => absurd hj (Nat.not_lt_zero _)⟩, by decide⟩
    · rw [k22]; exact ⟨[], o_f2, ⟨rfl, fun j hj => absurd hj (Nat.not_lt_zero _)⟩, by decide⟩
    · rw [k23]; exact ⟨[], o_f3, ⟨rfl, fun j hj => absurd hj (Nat.not_lt_zero _)⟩, by decide⟩
  · have := g7.2.2
    omega
  · rw [k1, k0]; exact (g5 (0, q0) (by simp)).2
  · rw [List.getD_eq_getElem?_getD, List.getElem?_replicate]
    split <;> rfl
end IN
