-- C
set_option maxRecDepth 100000
/-! LINEORDERS: deeds that are kept; the rest of the state -/
def dD : SDeed := (0, [], 0, fun _ => none)
def DsI (S : BS) (K : Nat → Nat) (la : Int → Nat) (ds : List SDeed) (cap : Nat) : Prop := ∃ xs, Ob S (K 10) (oAd xs cap) ∧ xs.length = ds.length ∧ ∀ j, j < ds.length → ∃ m, xs.getD j none = some m ∧ DeedIs S K la m (ds.getD j dD)
/-- the tape, the scripts -/
def TpI (S : BS) (K : Nat → Nat) (tp : List Int) : Prop := ∃ us, Ob S (K 0) (oIa us) ∧ us.length = 60 ∧ tp.length ≤ 60 ∧ (∀ j, j < tp.length → us.getD j 0 = tp.getD j 0) ∧ Fi S 1 (K 1) tp.length
def ScI (S : BS) (K : Nat → Nat) (sc : Nat → Option (List Int)) : Prop := ∃ ys, Ob S (K 2) (oRa 105 ys) ∧ ys.length = 4 ∧ ∀ k, k < 4 → (sc k = none → ys.getD k none = none) ∧ ∀ s, sc k = some s → StrB S (ys.getD k none) s
def RsI (S : BS) (K : Nat → Nat) (tp : List Int) (sc : Nat → Option (List Int)) : Prop := Fe S 0 (K 1) (some (K 0)) ∧ TpI S K tp ∧ ScI S K sc
section KD
variable {d n m q i a b e y cap c k j pl B p F : Nat} {S S' S0 S1 S2 : BS} {K : Nat → Nat} {la la' : Int → Nat} {A A1 : St} {V : Nat → Prop} {v nn b1 x1 : Int} {r : Option Nat} {dq : SDeed} {t : List SLine} {xs ws : List (Option Nat)} {ids : List Int} {G G' : BG} {ds : List SDeed} {tp : List Int} {sc : Nat → Option (List Int)} {o : Obj}
/-- something changes that is of the state but not of what acts see -/
theorem LB.frK (h : LB S K la ids p G B) (hF : Fr S S' (fun k => k = y) c) (ho : Ob S y o) (h6 : o ≠ oOwn 6) (h1 : (o.1 == 1) = false) (hy : ∀ i, i ∈ [1, 3, 6, 7, 8, 9, 15, 20, 21, 22, 23] → K i ≠ y) (hB : B + c ≤ 20000000) : LB S' K la ids p G (B + c) := by
  obtain ⟨⟨k1, k2, k3, k5, capk, k4⟩, ⟨mc, h2⟩, ⟨h3, h4, h5⟩, ⟨h6', h7, h8⟩, ⟨M, h9, h10⟩, cp, h11, ⟨⟨z, h12⟩, h13⟩, h14, h15⟩ := h
  have e := k2.old (oNe rfl)
  have nos : NoS S (fun k => k = y) := NoS.one ho h1
  have s1 : Sep S (fun k => k = y) (K 1) := hy 1 (by decide)
  refine ⟨⟨k1, k2.fr hF ⟨oNe rfl, s1⟩, fun f hf => (k3 f hf).fr hF ⟨⟨e, by simp at hf; omega⟩, s1⟩, fun i hi => hF.1 _ (k5 i hi), capk, k4.fr hF ⟨oNe rfl, hy 9 (by decide)⟩⟩, ⟨mc, h2.fr hF ⟨oNe rfl, hy 3 (by decide)⟩⟩, ⟨⟨fun x g1 g2 => ?_, h3.2⟩, h4, h5⟩, ⟨h6'.fr hF ⟨⟨e, by decide⟩, s1⟩, h7.fr hF ⟨⟨e, by decide⟩, s1⟩, h8.fr hF ⟨⟨e, by decide⟩, s1⟩⟩, ⟨M, h9.fr hF ⟨oNe rfl, hy 6 (by decide)⟩, h10⟩, cp, fun i hi => (h11 i hi).fr hF ⟨hy i (by revert hi; unfold lIx; simp; omega), nos⟩, ⟨⟨z, h12.fr hF ⟨oNe rfl, hy 15 (by decide)⟩⟩, h13⟩, ?_, hB⟩
  · obtain ⟨u1, u2⟩ := h3.1 x g1 g2
    have u3 : la x ≠ y := fun z => h6 (ho.symm.trans (by rw [← z]; exact u1))
    exact ⟨u1.fr hF ⟨oNe rfl, u3⟩, u2.fr hF ⟨⟨u1.old (oNe rfl), by decide⟩, u3⟩⟩
  · have := hF.2.2
    omega
theorem LO.frK (h : LO S K la A B) (hF : Fr S S' (fun k => k = y) c) (ho : Ob S y o) (h6 : o ≠ oOwn 6) (h1 : (o.1 == 1) = false) (hy : ∀ i, i ∈ [1, 3, 6, 7, 8, 9, 15, 20, 21, 22, 23] → K i ≠ y) (hB : B + c ≤ 20000000) : LO S' K la A (B + c) := ⟨h.1.frK hF ho h6 h1 hy hB, h.2.f6 hF (W6.one ho h6 h1)⟩
theorem LB.ne10 (h : LB S K la ids p G B) : ∀ i, i ∈ [1, 3, 6, 7, 8, 9, 15, 20, 21, 22, 23] → K i ≠ K 10 := fun i hi => h.inj (by revert hi; unfold kIx; simp; omega) (by decide) (by rintro rfl; revert hi; decide)
theorem LB.ne0 (h : LB S K la ids p G B) : ∀ i, i ∈ [1, 3, 6, 7, 8, 9, 15, 20, 21, 22, 23] → K i ≠ K 0 := fun i hi => h.inj (by revert hi; unfold kIx; simp; omega) (by decide) (by rintro rfl; revert hi; decide)
theorem LB.ne2 (h : LB S K la ids p G B) : ∀ i, i ∈ [1, 3, 6, 7, 8, 9, 15, 20, 21, 22, 23] → K i ≠ K 2 := fun i hi => h.inj (by revert hi; unfold kIx; simp; omega) (by decide) (by rintro rfl; revert hi; decide)
theorem LB.e0 (h : LB S K la ids p G B) : Fe S 0 (K 1) (some (K 0)) := h.fe (by decide)
theorem LB.e2 (h : LB S K la ids p G B) : Fe S 2 (K 1) (some (K 2)) := h.fe (by decide)
/-- fields of the object that acts leave alone -/
theorem XF.fK (h : XF K V S S') (hL : LB S K la ids p G B) (hf : Fi S F (K 1) v) (hF : F < 91 ∧ ¬ (71 ≤ F ∧ F ≤ 73) ∧ F ∉ [4, 5, 14, 16, 17] ∧ F ≠ 44) : Fi S' F (K 1) v := by
  have hx := hL.obx
  have hk : ¬ (∃ i, i ∈ kCh ∧ K 1 = K i) := fun ⟨i, hi, z⟩ => (hL.wk hi).2.1 z.symm
  rcases h.2.1 (K 1) (hx.old (oNe rfl)) hk with ⟨_, g⟩ | ⟨us, us', g, _⟩
  · exact (g F hF.1 hF.2.1 (fun z => hF.2.2.1 z.2) (fun z => hF.2.2.2 z.1)).1.trans hf
  · exact absurd (hx.symm.trans g) (oNe rfl)
theorem XG.fK (h : XG K V S S') (hL : LB S K la ids p G B) (hf : Fi S F (K 1) v) (hF : F < 91 ∧ ¬ (71 ≤ F ∧ F ≤ 73) ∧ F ∉ [4, 5, 14, 16, 17] ∧ F ≠ 44) (h13 : F ≠ 13) : Fi S' F (K 1) v := by
  obtain ⟨Sx, h1, h2⟩ := h
  exact (h2.2.2 F (K 1) (Or.inl h13)).1.trans (h1.fK hL hf hF)
/-- what isn't a container of acts, nor an array of three -/
theorem XF.obK (h : XF K V S S') (hL : LB S K la ids p G B) (hi : i ∈ [0, 2, 10]) (ho : Ob S (K i) o) (hn : o ≠ oNil) (h3 : ∀ us, o = oIa us → us.length ≠ 3) : Ob S' (K i) o := by
  have hk : ¬ (∃ j, j ∈ kCh ∧ K i = K j) := fun ⟨j, hj, z⟩ => hL.inj (i := i) (j := j) (by revert hi; unfold kIx; simp; omega) (by revert hj; unfold kCh kIx; simp; omega) (by rintro rfl; revert hi hj; unfold kCh; simp; omega) z
  rcases h.2.1 (K i) (ho.old hn) hk with ⟨g, _⟩ | ⟨us, us', g, _, l, _⟩
  · exact g.trans ho
  · exact absurd l (h3 us (ho.symm.trans g))
theorem XG.obK (h : XG K V S S') (hL : LB S K la ids p G B) (hi : i ∈ [0, 2, 10]) (ho : Ob S (K i) o) (hn : o ≠ oNil) (h3 : ∀ us, o = oIa us → us.length ≠ 3) : Ob S' (K i) o := by
  obtain ⟨Sx, h1, h2⟩ := h
  exact (congrFun h2.1 _).trans (h1.obK hL hi ho hn h3)
theorem XG.strB (h : XG K V S S') {s : List Int} (hs : StrB S r s) : StrB S' r s := by
  obtain ⟨Sx, h1, h2⟩ := h
  exact (h1.strB hs).pu h2 trivial
theorem DsI.xg (h : DsI S K la ds cap) (hX : XG K V S S') (hL : LB S K la' ids p G B) : DsI S' K la ds cap := by
  obtain ⟨xs, h1, h2, h3⟩ := h
  exact ⟨xs, hX.obK hL (by decide) h1 (oNe rfl) (fun us z => absurd z (oNe rfl)), h2, fun j hj => by
    obtain ⟨m, g1, g2⟩ := h3 j hj
    exact ⟨m, g1, g2.xg hX⟩⟩
theorem RsI.xg {ids' : List Int} {p' B' : Nat} (h : RsI S K tp sc) (hX : XG K V S S') (hL : LB S K la ids p G B) (hL' : LB S' K la' ids' p' G' B') : RsI S' K tp sc := by
  obtain ⟨h0, ⟨us, h1, h2, h3, h4, h5⟩, ys, h6, h7, h8⟩ := h
  exact ⟨hL'.e0, ⟨us, hX.obK hL (by decide) h1 (oNe rfl) (fun us' z => by
    have : us = us' := congrArg (fun o : Obj => o.2.1) z
    rw [← this, h2]; decide), h2, h3, h4, hX.fK hL h5 (by decide) (by decide)⟩, ys, hX.obK hL (by decide) h6 (oNe rfl) (fun us z => absurd z (oNe rfl)), h7, fun k hk => ⟨(h8 k hk).1, fun s hs => hX.strB ((h8 k hk).2 s hs)⟩⟩
/-- the deeds' queue changes -/
theorem RsI.f10 (h : RsI S K tp sc) (hF : Fr1 S S' (K 10) c) (ho : Ob S (K 10) o) (h1' : (o.1 == 1) = false) (hL : LB S K la ids p G B) : RsI S' K tp sc := by
  obtain ⟨h0, ⟨us, h1, h2, h3, h4, h5⟩, ys, h6, h7, h8⟩ := h
  have hx := hL.obx
  have e := hx.old (oNe rfl)
  have s1 : K 1 ≠ K 10 := hL.inj (by decide) (by decide) (by decide)
  exact ⟨h0.fr hF ⟨⟨e, by decide⟩, s1⟩, ⟨us, h1.fr hF ⟨oNe rfl, hL.inj (by decide) (by decide) (by decide)⟩, h2, h3, h4, h5.fr hF ⟨⟨e, by decide⟩, s1⟩⟩, ys, h6.fr hF ⟨oNe rfl, hL.inj (by decide) (by decide) (by decide)⟩, h7, fun k hk => ⟨(h8 k hk).1, fun s hs => ((h8 k hk).2 s hs).fr hF (NoS.one ho h1')⟩⟩
/-- an object that isn't of the state may change -/
theorem RsI.fr (h : RsI S K tp sc) (hF : Fr1 S S' m c) (ho : Ob S m o) (h1' : (o.1 == 1) = false) (hk : KoM K m) (hL : LB S K la ids p G B) : RsI S' K tp sc := by
  obtain ⟨h0, ⟨us, h1, h2, h3, h4, h5⟩, ys, h6, h7, h8⟩ := h
  have e := hL.obx.old (oNe rfl)
  have s : ∀ i, i ∈ kIx → Sep S (fun k => k = m) (K i) := fun i hi z => hk i hi z.symm
  exact ⟨h0.fr hF ⟨⟨e, by decide⟩, s 1 (by decide)⟩, ⟨us, h1.fr hF ⟨oNe rfl, s 0 (by decide)⟩, h2, h3, h4, h5.fr hF ⟨⟨e, by decide⟩, s 1 (by decide)⟩⟩, ys, h6.fr hF ⟨oNe rfl, s 2 (by decide)⟩, h7, fun k hk => ⟨(h8 k hk).1, fun s hs => ((h8 k hk).2 s hs).fr hF (NoS.one ho h1')⟩⟩
theorem RsI.pu (h : RsI S K tp sc) (hP : Pu S S' F (K 1)) (hF : F ∉ [0, 1]) : RsI S' K tp sc := by
  obtain ⟨h0, ⟨us, h1, h2, h3, h4, h5⟩, ys, h6, h7, h8⟩ := h
  exact ⟨h0.pu hP (Or.inl (fun z => hF (by rw [← z]; decide))), ⟨us, h1.pu hP trivial, h2, h3, h4, h5.pu hP (Or.inl (fun z => hF (by rw [← z]; decide)))⟩, ys, h6.pu hP trivial, h7, fun k hk => ⟨(h8 k hk).1, fun s hs => ((h8 k hk).2 s hs).pu hP trivial⟩⟩
theorem DsI.pu (h : DsI S K la ds cap) (hP : Pu S S' F (K 1)) : DsI S' K la ds cap := by
  obtain ⟨xs, h1, h2, h3⟩ := h
  exact ⟨xs, h1.pu hP trivial, h2, fun j hj => by
    obtain ⟨m, g1, g2⟩ := h3 j hj
    exact ⟨m, g1, g2.pu hP⟩⟩
theorem DsI.fr (h : DsI S K la ds cap) (hF : Fr1 S S' m c) (ho : Ob S m (oOwn 3)) (hk : KoM K m) : DsI S' K la ds cap := by
  obtain ⟨xs, h1, h2, h3⟩ := h
  exact ⟨xs, h1.fr hF ⟨oNe rfl, fun z => hk 10 (by decide) z.symm⟩, h2, fun j hj => by
    obtain ⟨m', g1, g2⟩ := h3 j hj
    exact ⟨m', g1, g2.frO hF ho (ownNe rfl) (fun _ => oNe rfl) (fun _ => oNe rfl) rfl⟩⟩
theorem DsI.lae (h : DsI S K la ds cap) {n : Int} (hE : LaE la la' n) (hq : ∀ q ∈ ds, DqK n q) : DsI S K la' ds cap := by
  obtain ⟨xs, h1, h2, h3⟩ := h
  exact ⟨xs, h1, h2, fun j hj => by
    obtain ⟨m, g1, g2⟩ := h3 j hj
    have hm : ds.getD j dD ∈ ds := by rw [List.getD_eq_getElem?_getD, List.getElem?_eq_getElem hj]; exact List.getElem_mem hj
    have hk := hq _ hm
    exact ⟨m, g1, g2.lae hE (fun x hx => (hk.idR hx).2) (fun j x _ hx => (hk.mk hx).2)⟩⟩
theorem L_keepDeed (hL : LO S K la A B) (hd : DsI S K la ds cap) (hdl : ds.length ≤ 40) (hm : DeedIs S K la m dq) (hcap : cap ≤ 100) : BMr (d + 5) gk_X1_keepDeed [aR (K 1), aR m] S (fun r S' => r = none ∧ ∃ cap', cap ≤ cap' ∧ cap' ≤ 100 ∧ DsI S' K la (keepD ds dq) cap' ∧ Fr1 S S' (K 10) (6 * (cap' - cap))) := by
  obtain ⟨xs, h10, hxl, hxs⟩ := hd
  have hx := hL.1.obx
  have e10 := hL.1.e10
  have hm4 := hm.2.1
  have s1 : K 1 ≠ K 10 := hL.1.inj (by decide) (by decide) (by decide)
  have hko : ∀ z, KoM K z → z ≠ K 10 := fun z hz => hz 10 (by decide)
  refine BM.of rfl rfl rfl ?_
  (repeat (first | (refine BW.pl rfl rfl ?_) | (refine CW.geti rfl rfl (by assumption) rfl rfl (by assumption) (fun _ => ?_)) | (refine CW.getr rfl rfl (by assumption) rfl rfl (by assumption) ?_)))
  refine CW.c2 rfl rfl (by first | exact Or.inl rfl | exact Or.inr (tagO (by assumption) (by rfl) (by rfl))) (by first | exact Or.inl (by decide) | exact Or.inr ⟨_, rfl, by assumption⟩) rfl (C_adAdd h10 (vOk_o hm4 rfl) (by omega)) ?_
  rintro r S1 ⟨rfl, cap', h101, hF1, hc1, hc2⟩
  have hx1 := hx.fr hF1 ⟨oNe rfl, s1⟩
  have e101 := e10.fr hF1 ⟨⟨hx.old (oNe rfl), by decide⟩, s1⟩
  have hall : ∀ j, j < ds.length + 1 → ∃ m', (xs ++ [some m]).getD j none = some m' ∧ DeedIs S1 K la m' ((ds ++ [dq]).getD j dD) := fun j hj => by
    rw [getD_app xs (some m) none j (by omega), getD_app ds dq dD j hj]
    by_cases z : j = ds.length
    · rw [if_pos (by omega), if_pos z]
      exact ⟨m, rfl, hm.fr hF1 hko (NoS.one h10 rfl)⟩
    · rw [if_neg (by omega), if_neg z]
      obtain ⟨m', g1, g2⟩ := hxs j (by omega)
      exact ⟨m', g1, g2.fr hF1 hko (NoS.one h10 rfl)⟩
  (repeat (first | (refine BW.pl rfl rfl ?_) | (refine CW.geti rfl rfl (by assumption) rfl rfl (by assumption) (fun _ => ?_)) | (refine CW.getr rfl rfl (by assumption) rfl rfl (by assumption) ?_)))
  refine CW.e1 rfl rfl (by first | exact Or.inl rfl | exact Or.inr (tagO (by assumption) (by rfl) (by rfl))) (by first | exact Or.inl (by decide) | exact Or.inr ⟨_, rfl, by assumption⟩) rfl (B_adSize h101) ?_
  rw [show (xs ++ [some m]).length = ds.length + 1 by simp [hxl]]
  (repeat (refine BW.pl rfl rfl ?_))
  by_cases z : ds.length = 40
  · refine BW.br rfl rfl (by first | omega | decide | (constructor <;> first | omega | decide)) (fun w => by first | (exfalso; omega) | exact absurd w (by decide)) (fun w => ?_)
    (repeat (first | (refine BW.pl rfl rfl ?_) | (refine CW.geti rfl rfl (by assumption) rfl rfl (by assumption) (fun _ => ?_)) | (refine CW.getr rfl rfl (by assumption) rfl rfl (by assumption) ?_)))
    refine CW.c1 rfl rfl (by first | exact Or.inl rfl | exact Or.inr (tagO (by assumption) (by rfl) (by rfl))) (by first | exact Or.inl (by decide) | exact Or.inr ⟨_, rfl, by assumption⟩) rfl (C_adRF h101 (by simp)) ?_
    rintro r S2 ⟨rfl, h102, hF2⟩
    (repeat (refine BW.pl rfl rfl ?_))
    refine BW.ret rfl rfl ⟨_, rfl, rfl, cap', hc1, by omega, ⟨_, h102, ?_, fun j hj => ?_⟩, (hF1.tr hF2 (fun _ _ z => z)).w (fun _ _ z => z) (by omega)⟩
    · unfold keepD
      rw [if_pos z]
      simp
      omega
    · unfold keepD at hj ⊢
      rw [if_pos z] at hj ⊢
      have hj : j < 40 := by
        rw [List.length_append, List.length_drop] at hj
        simp at hj
        omega
      obtain ⟨m', g1, g2⟩ := hall (j + 1) (by omega)
      have e1 : ((xs ++ [some m]).drop 1).getD j none = (xs ++ [some m]).getD (j + 1) none := by
        rw [List.getD_eq_getElem?_getD, List.getElem?_drop, List.getD_eq_getElem?_getD, Nat.add_comm]
      have e2 : (ds.drop 1 ++ [dq]).getD j dD = (ds ++ [dq]).getD (j + 1) dD := by
        have : ds.drop 1 ++ [dq] = (ds ++ [dq]).drop 1 := by rw [List.drop_append, show 1 - ds.length = 0 by omega, List.drop_zero]
        rw [this, List.getD_eq_getElem?_getD, List.getElem?_drop, List.getD_eq_getElem?_getD, Nat.add_comm]
      rw [e1, e2]
      exact ⟨m', g1, g2.fr hF2 hko (NoS.one h101 rfl)⟩
  · refine BW.br rfl rfl (by first | omega | decide | (constructor <;> first | omega | decide)) (fun w => ?_) (fun w => by first | (exfalso; omega) | exact absurd w (by decide))
    refine BW.ret rfl rfl ⟨_, rfl, rfl, cap', hc1, by omega, ⟨_, h101, ?_, fun j hj => ?_⟩, hF1⟩
    · unfold keepD
      rw [if_neg z]
      simp [hxl]
    · unfold keepD at hj ⊢
      rw [if_neg z] at hj ⊢
      rw [List.length_append] at hj
      exact hall j hj
end KD
