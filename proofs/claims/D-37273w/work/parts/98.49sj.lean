-- C
set_option maxRecDepth 100000
/-! LINEORDERS: a stream: joinNext, doPlain -/
section SJ
variable {d n m q oq ar pq dq a b f y cap cap' cap1 c i k B B' B2 st tu p Bm L : Nat} {S S' S1 S2 : BS} {K : Nat → Nat} {V F : Nat → Prop} {o : Obj} {la la1 : Int → Nat} {t pu re rs pu1 re1 : List SLine} {x z x1 : SLine} {g g1 ov rp run : Bool} {du rows du1 du' : List (List Int)} {W : WG} {G G1 : BG} {ru : Nat → Nat → RG} {r : Option Nat} {v nn n0 : Int} {s row : List Int} {h9 o9 : List (List Int)} {fi : Nat → List (List Int)} {mk : Nat → Option Int} {od : SOrd0} {zz : Prop} {w : Nat} {rg : GO} {xs ys : List (Option Nat)}
theorem drop_at {k : Nat} {l1 : List SLine} (h : z :: l1 = t.drop k) : k < t.length ∧ t.getD k (0, []) = z ∧ l1 = t.drop (k + 1) := by
  have hk : k < t.length := by
    have := congrArg List.length h
    rw [List.length_cons, List.length_drop] at this
    omega
  rw [List.drop_eq_getElem_cons hk] at h
  have h1 := (List.cons.inj h).1
  exact ⟨hk, by rw [List.getD_eq_getElem?_getD, List.getElem?_eq_getElem hk, h1]; rfl, (List.cons.inj h).2⟩
/-- the line that stands at the place taken -/
theorem ar_at (h : StN S q t (z :: re) st tu ov) : t.length - (z :: re).length < t.length ∧ (lsOf la (idsOfL t)).getD (t.length - (z :: re).length) none = some (la z.1) ∧ t.length - re.length = t.length - (z :: re).length + 1 ∧ re = t.drop (t.length - re.length) := by
  obtain ⟨-, h1, h2⟩ := h
  obtain ⟨g1, g2, g3⟩ := drop_at h1
  rw [List.length_cons] at h2
  have e : t.length - re.length = t.length - (z :: re).length + 1 := by rw [List.length_cons]; omega
  refine ⟨g1, lsOf_get (by rw [ids_len]; exact g1) ?_, e, by rw [e]; exact g3⟩
  rw [ids_get, g2]
theorem StN.tak (h : StN S q t (z :: re) st tu ov) (hP : Pu S S' 83 q) (hv : Fi S' 83 q v) (e : v = ((t.length - (z :: re).length : Nat) : Int) + 1) : StN S' q t re st tu ov := by
  have h0 := ar_at (la := fun _ => 0) h
  obtain ⟨⟨h1, h2, h3, h4⟩, h5, h6⟩ := h
  have h6 : re.length + 1 ≤ t.length := h6
  have ev : v = ((t.length - re.length : Nat) : Int) := by rw [h0.2.2.1]; omega
  rw [ev] at hv
  exact ⟨⟨hv, h2.pu hP (Or.inl (by decide)), h3.pu hP (Or.inl (by decide)), h4.pu hP (Or.inl (by decide))⟩, h0.2.2.2, by omega⟩
theorem S_join (h : DpC S K F q oq ar pq dq la t x du pu re G st tu ov ru cap B Bm m od n0) : BM (d + 182) gk_X13_joinNext [aR q] S (DpX S K F q oq ar pq dq la t (x, false, du, pu, re) G st tu ov ru cap B Bm (stJoin (x, false, du, pu, re) G)) := by
  obtain ⟨hW, hk, hw, h40, hO, hod, ⟨hcp, hdl⟩, hn, hBm⟩ := h
  obtain ⟨h9, o9, fi, mk, nn, rp⟩ := G
  obtain ⟨⟨⟨hq, h79, h80, h81, h82, h90, har⟩, ⟨p, hL⟩, hp, hd, hN, hR⟩, h85, h86, h87⟩ := id hW
  have hal : (lsOf la (idsOfL t)).length = t.length := by rw [lsOf_len, ids_len]
  have h83 : Fi S 83 q ((t.length - re.length : Nat) : Int) := hN.1.1
  have hrl : re.length ≤ t.length := hN.2.2
  have hR : RowsI S la nn (allL (x, false, du, pu, re)) := hR
  refine BM.of rfl rfl rfl ?_
  (repeat (first | (refine BW.pl rfl rfl ?_) | (refine CW.geti rfl rfl (by assumption) rfl rfl (by assumption) (fun _ => ?_)) | (refine CW.getr rfl rfl (by assumption) rfl rfl (by assumption) ?_)))
  refine CW.alenR rfl har (fun _ => ?_)
  rw [hal]
  cases re with
  | nil =>
    rw [show t.length - ([] : List SLine).length = t.length from rfl]
    refine BW.br rfl rfl (by first | omega | decide | (constructor <;> first | omega | decide)) (fun w => ?_) (fun w => by first | (exfalso; omega) | exact absurd w (by decide))
    exact BW.ret rfl rfl (DpX.go (G := (h9, o9, fi, mk, nn, rp)) hW ⟨Nat.le_refl _, hcp⟩ (by omega) (by omega) hBm XS.rf LaE.rf (Int.le_refl _) ⟨[], by simp⟩)
  | cons z re =>
    have hN : StN S q t (z :: re) st tu ov := hN
    obtain ⟨a1, a2, a3, a4⟩ := ar_at (la := la) hN
    rw [List.length_cons] at hrl
    have eS : stJoin (x, false, du, pu, z :: re) (h9, o9, fi, mk, nn, rp) = if 30 < (x.2 ++ z.2).length then .inl 4 else .inr (((x.1, x.2 ++ z.2), false, du, pu, re), h9, o9, fi, unmk mk z.1, nn, rp) := rfl
    rw [eS]
    have ejt : (((t.length - (z :: re).length : Nat) : Int)).toNat = t.length - (z :: re).length := by omega
    refine BW.br rfl rfl (by first | omega | decide | (constructor <;> first | omega | decide)) (fun w => by first | (exfalso; omega) | exact absurd w (by decide)) (fun w => ?_)
    (repeat (first | (refine BW.pl rfl rfl ?_) | (refine CW.geti rfl rfl (by assumption) rfl rfl (by assumption) (fun _ => ?_)) | (refine CW.getr rfl rfl (by assumption) rfl rfl (by assumption) ?_)))
    refine CW.aald rfl har ⟨by omega, by omega⟩ ?_
    rw [ejt, a2]
    (repeat (first | (refine BW.pl rfl rfl ?_) | (refine CW.geti rfl rfl (by assumption) rfl rfl (by assumption) (fun _ => ?_)) | (refine CW.getr rfl rfl (by assumption) rfl rfl (by assumption) ?_)))
    first | (refine CW.putr rfl rfl (by assumption) rfl (by decide) (fun S1 hP1 h831 => ?_)) | (refine CW.puti rfl (by assumption) rfl (by decide) (by first | exact Or.inl ⟨rfl, by first | omega | decide | (constructor <;> first | omega | decide)⟩ | exact Or.inr (Or.inl ⟨rfl, by first | omega | decide | (constructor <;> first | omega | decide)⟩) | exact Or.inr (Or.inr (Or.inl ⟨rfl, by first | omega | decide | (constructor <;> first | omega | decide)⟩)) | exact Or.inr (Or.inr (Or.inr ⟨rfl, by first | omega | decide | (constructor <;> first | omega | decide)⟩))) (fun S1 hP1 h831 => ?_))
    have g1 := hW.1.puq (ru' := ru) (x' := x) (g' := false) hk hP1 (by decide) (hN.tak hP1 h831 rfl)
    have hq1 := g1.1.1
    have h831' : Fi S1 83 q ((t.length - re.length : Nat) : Int) := g1.2.2.2.2.1.1.1
    (repeat (first | (refine BW.pl rfl rfl ?_) | (refine CW.geti rfl rfl (by assumption) rfl rfl (by assumption) (fun _ => ?_)) | (refine CW.getr rfl rfl (by assumption) rfl rfl (by assumption) ?_)))
    first | (refine CW.putr rfl rfl (by assumption) rfl (by decide) (fun S2 hP2 h852 => ?_)) | (refine CW.puti rfl (by assumption) rfl (by decide) (by first | exact Or.inl ⟨rfl, by first | omega | decide | (constructor <;> first | omega | decide)⟩ | exact Or.inr (Or.inl ⟨rfl, by first | omega | decide | (constructor <;> first | omega | decide)⟩) | exact Or.inr (Or.inr (Or.inl ⟨rfl, by first | omega | decide | (constructor <;> first | omega | decide)⟩)) | exact Or.inr (Or.inr (Or.inr ⟨rfl, by first | omega | decide | (constructor <;> first | omega | decide)⟩))) (fun S2 hP2 h852 => ?_))
    have g2 := g1.puq (ru' := ru) (x' := x) (g' := false) hk hP2 (by decide) (g1.2.2.2.2.1.puq hP2 (Or.inl rfl))
    have hk2 : StWk S2 la q t (x, false, du, pu, re) := ⟨h852, (h86.pu hP1 (Or.inl (by decide))).pu hP2 (Or.inl (by decide)), (h87.pu hP1 (Or.inl (by decide))).pu hP2 (Or.inl (by decide))⟩
    have hX2 : XA K q pq dq S S2 := (XS.rf.st (Or.inl rfl) hq (Or.inl rfl) hP1.fr).st (Or.inl rfl) hq1 (Or.inl rfl) hP2.fr
    have hzm : z ∈ allL (x, false, du, pu, z :: re) := by show z ∈ pu ++ [x] ++ z :: re; simp
    have hR2 : RowsI S2 la nn (allL (x, false, du, pu, z :: re)) := g2.2.2.2.2.2
    obtain ⟨hzR, hzo, rz, hz44, ⟨yz, rfl, hyz⟩, hyzk⟩ := hR2 z hzm
    have hsub : ∀ z' ∈ allL (x, false, du, pu, re), z' ∈ allL (x, false, du, pu, z :: re) := fun z' hz' => by
      have hz' : z' ∈ pu ++ [x] ++ re := hz'
      show z' ∈ pu ++ [x] ++ z :: re
      simp only [List.mem_append, List.mem_cons] at hz' ⊢
      rcases hz' with y1 | y1
      · exact Or.inl y1
      · exact Or.inr (Or.inr y1)
    have h2 : StW S2 K la q oq ar pq dq t ((x, false, du, pu, re), (h9, o9, fi, mk, nn, rp), st, tu, ov, ru) cap B := by
      obtain ⟨b1, b2, b3, b4, b5, b6⟩ := g2
      exact ⟨⟨b1, b2, b3, b4, b5, b6.sub hsub⟩, hk2⟩
    have hx30 := hw.x30
    have hz30 : z.2.length ≤ 30 := (hw.tt.2.1 z hzm).2.1
    obtain ⟨hxR, hxo2, y2, hx442, hy2, hyk2⟩ := h2.wrow
    obtain ⟨p2, hL2⟩ := h2.1.2.1
    have hL2 : LB S2 K la (idsOfL t) p2 (h9, o9, fi, mk, nn, rp) (B + 6 * cap) := hL2
    have hq2 := h2.1.1.1
    have h862 : Fe S2 86 q (some (la x.1)) := h2.2.2.1
    (repeat (first | (refine BW.pl rfl rfl ?_) | (refine CW.geti rfl rfl (by assumption) rfl rfl (by assumption) (fun _ => ?_)) | (refine CW.getr rfl rfl (by assumption) rfl rfl (by assumption) ?_)))
    refine CW.newJ (L := 4) (c := 14) rfl rfl rfl (fun bb S3 hNw => ?_)
    have hbb := hNw.ob
    have hbk := hNw.1
    have hbo := hL2.ko hNw.nil
    have hb0 := hNw.nil
    have hX3 : XF K (fun _ => False) S2 S3 := XF.rf.nw hNw
    have hL3 := hL2.fr hNw.fr LoW.no (by omega)
    (repeat (refine BW.pl rfl rfl ?_))
    refine CW.c1 rfl rfl (by first | exact Or.inl rfl | exact Or.inr (tagO (by assumption) (by rfl) (by rfl)) | exact Or.inr (tagO (AdrIs.ox (by assumption)) (by rfl) (by rfl)) | exact Or.inr (tagO (PatIs.ox (by assumption)) (by rfl) (by rfl)) | exact Or.inr (tagO (Or0.ox (by assumption)) (by rfl) (by rfl))) (by first | exact Or.inl (by decide) | exact Or.inr ⟨_, rfl, by assumption⟩) rfl (C_sbNew (d := d + 179) hbb) ?_
    rintro r S4 ⟨rfl, hb4, hF4⟩
    have hX4 : XF K (fun _ => False) S2 S4 := hX3.f1 hF4 (fun z => absurd hb0 z)
    have hL4 := hL3.fr hF4 (LoW.one hbo hbb (oNe rfl) rfl) (by omega)
    have h4 := StW.xf (B' := B + 60) h2 hk hX4 ⟨p2, hL4.le (by omega) (by omega)⟩ rfl (fun _ _ z => z)
    obtain ⟨-, hxo4, y4, hx444, hy4, hyk4⟩ := h4.wrow
    have hq4 := h4.1.1.1
    have h864 : Fe S4 86 q (some (la x.1)) := h4.2.2.1
    (repeat (first | (refine BW.pl rfl rfl ?_) | (refine CW.geti rfl rfl (by assumption) rfl rfl (by assumption) (fun _ => ?_)) | (refine CW.getr rfl rfl (by assumption) rfl rfl (by assumption) ?_)))
    refine CW.c2 rfl rfl (by first | exact Or.inl rfl | exact Or.inr (tagO (by assumption) (by rfl) (by rfl)) | exact Or.inr (tagO (AdrIs.ox (by assumption)) (by rfl) (by rfl)) | exact Or.inr (tagO (PatIs.ox (by assumption)) (by rfl) (by rfl)) | exact Or.inr (tagO (Or0.ox (by assumption)) (by rfl) (by rfl))) (by first | exact Or.inl (by decide) | exact Or.inr ⟨_, rfl, by assumption⟩) rfl (C_sbAppS (d := d + 176) hb4 hy4 (by simp only [List.length_nil]; omega)) ?_
    rintro r S5 ⟨rfl, cp5, hb5, hF5, k51, k52⟩
    simp only [List.nil_append] at hb5 k52
    have hX5 : XF K (fun _ => False) S2 S5 := hX4.f1 hF5 (fun z => absurd hb0 z)
    have hL5 := hL4.fr hF5 (LoW.one hbo hb4 (oNe rfl) rfl) (by omega)
    have hR5 := RowsI.xf hR2 hX5 (fun _ _ z => z) hL2
    obtain ⟨-, hzo5, rz5, hz445, ⟨yz5, rfl, hyz5⟩, hyzk5⟩ := hR5 z hzm
    (repeat (first | (refine BW.pl rfl rfl ?_) | (refine CW.geti rfl rfl (by assumption) rfl rfl (by assumption) (fun _ => ?_)) | (refine CW.getr rfl rfl (by assumption) rfl rfl (by assumption) ?_)))
    refine CW.c2 rfl rfl (by first | exact Or.inl rfl | exact Or.inr (tagO (by assumption) (by rfl) (by rfl)) | exact Or.inr (tagO (AdrIs.ox (by assumption)) (by rfl) (by rfl)) | exact Or.inr (tagO (PatIs.ox (by assumption)) (by rfl) (by rfl)) | exact Or.inr (tagO (Or0.ox (by assumption)) (by rfl) (by rfl))) (by first | exact Or.inl (by decide) | exact Or.inr ⟨_, rfl, by assumption⟩) rfl (C_sbAppS (d := d + 176) hb5 hyz5 (by omega)) ?_
    rintro r S6 ⟨rfl, cp6, hb6, hF6, k61, k62⟩
    rw [List.length_append] at k62
    have hX6 : XF K (fun _ => False) S2 S6 := hX5.f1 hF6 (fun z => absurd hb0 z)
    have hL6 := hL5.fr hF6 (LoW.one hbo hb5 (oNe rfl) rfl) (by omega)
    (repeat (refine BW.pl rfl rfl ?_))
    refine CW.c1 rfl rfl (by first | exact Or.inl rfl | exact Or.inr (tagO (by assumption) (by rfl) (by rfl)) | exact Or.inr (tagO (AdrIs.ox (by assumption)) (by rfl) (by rfl)) | exact Or.inr (tagO (PatIs.ox (by assumption)) (by rfl) (by rfl)) | exact Or.inr (tagO (Or0.ox (by assumption)) (by rfl) (by rfl))) (by first | exact Or.inl (by decide) | exact Or.inr ⟨_, rfl, by assumption⟩) rfl (C_sbStr (d := d + 175) hb6) ?_
    rintro r S7 ⟨y7, rfl, hy7k, hy70, hy7, hF7⟩
    have hsxl : (x.2 ++ z.2).length = x.2.length + z.2.length := List.length_append
    have hX7 : XF K (fun _ => False) S2 S7 := hX6.f0 hF7
    have hL7 := hL6.fr hF7 LoW.no (by omega)
    have h7 := StW.xf (B' := B + 500) h2 hk hX7 ⟨p2, hL7.le (by omega) (by omega)⟩ rfl (fun _ _ z => z)
    refine CW.x1 rfl rfl (by first | exact Or.inl rfl | exact Or.inr (tagO (by assumption) (by rfl) (by rfl)) | exact Or.inr (tagO (AdrIs.ox (by assumption)) (by rfl) (by rfl)) | exact Or.inr (tagO (PatIs.ox (by assumption)) (by rfl) (by rfl)) | exact Or.inr (tagO (Or0.ox (by assumption)) (by rfl) (by rfl))) (by first | exact Or.inl (by decide) | exact Or.inr ⟨_, rfl, by assumption⟩) rfl rfl (L_checked (d := d + 176) hy7) ?_ ?_
    · rintro r S8 h8
      by_cases z3 : 30 < (x.2 ++ z.2).length
      · rw [if_pos z3] at h8
        obtain ⟨q9, e9, _⟩ := h8
        cases e9
      · rw [if_neg z3] at h8 ⊢
        obtain ⟨e8, rfl⟩ := h8
        cases e8
        have h7b := StW.xf (B' := B + 235) h2 hk hX7 ⟨p2, hL7.le (by omega) (by omega)⟩ rfl (fun _ _ z => z)
        obtain ⟨-, hxo7, -⟩ := h7b.wrow
        have hnd : (idsOfL (allL (x, false, du, pu, re))).Nodup := hw.tt.1.sublist (by
          show ((pu ++ [x] ++ re).map (fun q : SLine => q.1)).Sublist ((pu ++ [x] ++ z :: re).map (fun q : SLine => q.1))
          exact ((List.Sublist.refl _).append (List.sublist_cons_self z re)).map _)
        first | (refine CW.putr rfl rfl (by assumption) rfl (by decide) (fun S9 hP9 h449 => ?_)) | (refine CW.puti rfl (by assumption) rfl (by decide) (by first | exact Or.inl ⟨rfl, by first | omega | decide | (constructor <;> first | omega | decide)⟩ | exact Or.inr (Or.inl ⟨rfl, by first | omega | decide | (constructor <;> first | omega | decide)⟩) | exact Or.inr (Or.inr (Or.inl ⟨rfl, by first | omega | decide | (constructor <;> first | omega | decide)⟩)) | exact Or.inr (Or.inr (Or.inr ⟨rfl, by first | omega | decide | (constructor <;> first | omega | decide)⟩))) (fun S9 hP9 h449 => ?_))
        have h9' := h7b.setRow hk hnd hP9 h449 ⟨⟨y7, rfl, hy7⟩, okS.mk (Or.inl hy7k)⟩
        obtain ⟨⟨⟨hq9, -, -, -, -, h909, -⟩, ⟨p9, hL9⟩, -⟩, -⟩ := id h9'
        have hL9 : LB S9 K la (idsOfL t) p9 (h9, o9, fi, mk, nn, rp) (B + 235 + 6 * cap) := hL9
        have hx9 := hL9.obx
        (repeat (first | (refine BW.pl rfl rfl ?_) | (refine CW.geti rfl rfl (by assumption) rfl rfl (by assumption) (fun _ => ?_)) | (refine CW.getr rfl rfl (by assumption) rfl rfl (by assumption) ?_)))
        refine CW.c2 rfl rfl (by first | exact Or.inl rfl | exact Or.inr (tagO (by assumption) (by rfl) (by rfl)) | exact Or.inr (tagO (AdrIs.ox (by assumption)) (by rfl) (by rfl)) | exact Or.inr (tagO (PatIs.ox (by assumption)) (by rfl) (by rfl)) | exact Or.inr (tagO (Or0.ox (by assumption)) (by rfl) (by rfl))) (by first | exact Or.inl (by decide) | exact Or.inr ⟨_, rfl, by assumption⟩) rfl (L_unmark (d := d + 175) (V := fun _ => False) (x := z.1) hL9 hzR (by omega)) ?_
        rintro r S10 ⟨rfl, hL10, hX10, hF10⟩
        have h10 := StW.xf (G' := (h9, o9, fi, unmk mk z.1, nn, rp)) (B' := B + 240) h9' hk hX10 ⟨p9, hL10.le (by omega) (by omega)⟩ rfl (fun _ _ z => z)
        exact BW.ret rfl rfl (DpX.go (G := (h9, o9, fi, mk, nn, rp)) (G1 := (h9, o9, fi, unmk mk z.1, nn, rp)) h10 ⟨Nat.le_refl _, hcp⟩ (by omega) (by omega) hBm ((XA.rowP (hX2.xf hX7) hP9).xf hX10) LaE.rf (Int.le_refl _) ⟨[], by simp⟩)
    · rintro E q9 S8 h8
      by_cases z3 : 30 < (x.2 ++ z.2).length
      · rw [if_pos z3] at h8 ⊢
        exact h7.stR ((hX2.xf hX7).up) (by omega) hBm.2 h8
      · rw [if_neg z3] at h8
        cases h8.1
theorem S_j (h : DpC S K F q oq ar pq dq la t x du pu re G st tu ov ru cap B Bm m od n0) : BW (d + 183) gm_X13_doPlain 30 [some (aR q), some (aR m), none] [] S (DpX S K F q oq ar pq dq la t (x, false, du, pu, re) G st tu ov ru cap B Bm (stJoin (x, false, du, pu, re) G)) := by
  have h0 := h
  obtain ⟨hW, hk, hw, h40, hO, hod, ⟨hcp, hdl⟩, hn, hBm⟩ := h
  have hq := hW.1.1.1
  (repeat (refine BW.pl rfl rfl ?_))
  refine CW.x1 rfl rfl (by first | exact Or.inl rfl | exact Or.inr (tagO (by assumption) (by rfl) (by rfl)) | exact Or.inr (tagO (AdrIs.ox (by assumption)) (by rfl) (by rfl)) | exact Or.inr (tagO (PatIs.ox (by assumption)) (by rfl) (by rfl)) | exact Or.inr (tagO (Or0.ox (by assumption)) (by rfl) (by rfl))) (by first | exact Or.inl (by decide) | exact Or.inr ⟨_, rfl, by assumption⟩) rfl rfl (S_join (d := d + 1) h0) ?_ ?_
  · intro r S2 h2
    have hz : ∀ R, DpX S K F q oq ar pq dq la t (x, false, du, pu, re) G st tu ov ru cap B Bm (R) (.inl r) S2 → r = none := by
      intro R h2
      cases R with
      | inl w => obtain ⟨_, _, _, _, _, _, _, _, _, _, q9, e9, _⟩ := h2; cases e9
      | inr z => obtain ⟨W1, G1⟩ := z; cases h2.1; rfl
    obtain rfl := hz _ h2
    (repeat (refine BW.pl rfl rfl ?_))
    exact BW.ret rfl rfl h2
  · intro E q9 S2 h2
    exact h2
theorem gAct_97 (h : oAct od = 97) : stAct L od run W G = .inr (stDue W (oRows od), G) := by
  obtain ⟨h9, o9, fi, mk, nn, rp⟩ := G
  unfold stAct
  rw [if_pos h]
theorem gAct_105 (h : oAct od = 105) : stAct L od run W G = stPuts W G (oRows od) := by
  obtain ⟨h9, o9, fi, mk, nn, rp⟩ := G
  unfold stAct
  rw [if_neg (by omega), if_pos h]
theorem gAct_99 (h : oAct od = 99) : stAct L od run W G = (if oSnd od = none ∨ run = false then (match stPuts W G (oRows od) with | .inl w => .inl w | .inr (W1, B1) => .inr (stGone W1 B1)) else .inr (stGone W G)) := by
  obtain ⟨h9, o9, fi, mk, nn, rp⟩ := G
  unfold stAct
  rw [if_neg (by omega), if_neg (by omega), if_pos h]
  rfl
theorem gAct_100 (h : oAct od = 100) : stAct L od run W G = .inr (stGone W G) := by
  obtain ⟨h9, o9, fi, mk, nn, rp⟩ := G
  unfold stAct
  rw [if_neg (by omega), if_neg (by omega), if_neg (by omega), if_pos h]
theorem gAct_106 (h : oAct od = 106) : stAct L od run W G = stJoin W G := by
  obtain ⟨h9, o9, fi, mk, nn, rp⟩ := G
  unfold stAct
  rw [if_neg (by omega), if_neg (by omega), if_neg (by omega), if_neg (by omega), if_pos h]
theorem gAct_118 (h : oAct od = 118) : stAct L od run W G = (if (oNum od).toNat < W.1.2.length then .inr (stRow (stDue W [W.1.2.drop (oNum od).toNat]) (W.1.2.take (oNum od).toNat), G) else .inr (W, G)) := by
  obtain ⟨h9, o9, fi, mk, nn, rp⟩ := G
  unfold stAct
  rw [if_neg (by omega), if_neg (by omega), if_neg (by omega), if_neg (by omega), if_neg (by omega), if_pos h]
theorem gAct_112 (h : oAct od = 112) : stAct L od run W G = stTell W G W.1.2 := by
  obtain ⟨h9, o9, fi, mk, nn, rp⟩ := G
  unfold stAct
  rw [if_neg (by omega), if_neg (by omega), if_neg (by omega), if_neg (by omega), if_neg (by omega), if_neg (by omega), if_pos h]
theorem gAct_61 (h : oAct od = 61) : stAct L od run W G = stTell W G (sNum (L - W.2.2.2.2.length)) := by
  obtain ⟨h9, o9, fi, mk, nn, rp⟩ := G
  unfold stAct
  rw [if_neg (by omega), if_neg (by omega), if_neg (by omega), if_neg (by omega), if_neg (by omega), if_neg (by omega), if_neg (by omega), if_pos h]
theorem gAct_110 (h : oAct od = 110) : stAct L od run W G = stTell W G (sNum (L - W.2.2.2.2.length) ++ [32] ++ W.1.2) := by
  obtain ⟨h9, o9, fi, mk, nn, rp⟩ := G
  unfold stAct
  rw [if_neg (by omega), if_neg (by omega), if_neg (by omega), if_neg (by omega), if_neg (by omega), if_neg (by omega), if_neg (by omega), if_neg (by omega), if_pos h]
theorem gAct_104 (h : oAct od = 104) : stAct L od run W G = .inr (W, [W.1.2], G.2) := by
  obtain ⟨h9, o9, fi, mk, nn, rp⟩ := G
  unfold stAct
  rw [if_neg (by omega), if_neg (by omega), if_neg (by omega), if_neg (by omega), if_neg (by omega), if_neg (by omega), if_neg (by omega), if_neg (by omega), if_neg (by omega), if_pos h]
theorem gAct_72 (h : oAct od = 72) : stAct L od run W G = (if G.1.length = 40 then .inl 4 else .inr (W, G.1 ++ [W.1.2], G.2)) := by
  obtain ⟨h9, o9, fi, mk, nn, rp⟩ := G
  unfold stAct
  rw [if_neg (by omega), if_neg (by omega), if_neg (by omega), if_neg (by omega), if_neg (by omega), if_neg (by omega), if_neg (by omega), if_neg (by omega), if_neg (by omega), if_neg (by omega), if_pos h]
theorem gAct_117 (h : oAct od = 117) : stAct L od run W G = (if G.1 = [] then .inl 5 else .inr (stDue W G.1, G)) := by
  obtain ⟨h9, o9, fi, mk, nn, rp⟩ := G
  unfold stAct
  rw [if_neg (by omega), if_neg (by omega), if_neg (by omega), if_neg (by omega), if_neg (by omega), if_neg (by omega), if_neg (by omega), if_neg (by omega), if_neg (by omega), if_neg (by omega), if_neg (by omega), if_pos h]
theorem gAct_101 (h : oAct od = 101) : stAct L od run W G = (if G.1.length = 1 then .inr (stRow W (G.1.getD 0 []), [W.1.2], G.2) else .inl 5) := by
  obtain ⟨h9, o9, fi, mk, nn, rp⟩ := G
  unfold stAct
  rw [if_neg (by omega), if_neg (by omega), if_neg (by omega), if_neg (by omega), if_neg (by omega), if_neg (by omega), if_neg (by omega), if_neg (by omega), if_neg (by omega), if_neg (by omega), if_neg (by omega), if_neg (by omega), if_pos h]
theorem gAct_107 (h : oAct od = 107) : stAct L od run W G = .inr (W, setM G (fup G.2.2.2.1 (oNum od).toNat (some W.1.1))) := by
  obtain ⟨h9, o9, fi, mk, nn, rp⟩ := G
  unfold stAct
  rw [if_neg (by omega), if_neg (by omega), if_neg (by omega), if_neg (by omega), if_neg (by omega), if_neg (by omega), if_neg (by omega), if_neg (by omega), if_neg (by omega), if_neg (by omega), if_neg (by omega), if_neg (by omega), if_neg (by omega), if_pos h]
  rfl
theorem gAct_114 (h : oAct od = 114) : stAct L od run W G = .inr (stDue W (G.2.2.1 (oNum od).toNat), G) := by
  obtain ⟨h9, o9, fi, mk, nn, rp⟩ := G
  unfold stAct
  rw [if_neg (by omega), if_neg (by omega), if_neg (by omega), if_neg (by omega), if_neg (by omega), if_neg (by omega), if_neg (by omega), if_neg (by omega), if_neg (by omega), if_neg (by omega), if_neg (by omega), if_neg (by omega), if_neg (by omega), if_neg (by omega), if_pos h]
theorem gAct_119 (h : oAct od = 119) : stAct L od run W G = (if (G.2.2.1 (oNum od).toNat).length = 40 then .inl 4 else .inr (W, (G.1, G.2.1, fup G.2.2.1 (oNum od).toNat (G.2.2.1 (oNum od).toNat ++ [W.1.2]), G.2.2.2))) := by
  obtain ⟨h9, o9, fi, mk, nn, rp⟩ := G
  unfold stAct
  rw [if_neg (by omega), if_neg (by omega), if_neg (by omega), if_neg (by omega), if_neg (by omega), if_neg (by omega), if_neg (by omega), if_neg (by omega), if_neg (by omega), if_neg (by omega), if_neg (by omega), if_neg (by omega), if_neg (by omega), if_neg (by omega), if_neg (by omega), if_pos h]
theorem gAct_ch (h : oAct od = 115 ∨ oAct od = 122 ∨ oAct od = 62 ∨ oAct od = 60) : stAct L od run W G = match sChg od W.1.2 with
    | none => .inl 4
    | some (r, b) => .inr (stRow W r, setRG G (G.2.2.2.2.2 || b)) := by
  obtain ⟨h9, o9, fi, mk, nn, rp⟩ := G
  unfold stAct
  rw [if_neg (by omega), if_neg (by omega), if_neg (by omega), if_neg (by omega), if_neg (by omega), if_neg (by omega), if_neg (by omega), if_neg (by omega), if_neg (by omega), if_neg (by omega), if_neg (by omega), if_neg (by omega), if_neg (by omega), if_neg (by omega), if_neg (by omega), if_neg (by omega)]
  cases sChg od W.1.2 with
  | none => rfl
  | some q => obtain ⟨r, b⟩ := q; rfl
theorem L_stAct (h : DpC S K F q oq ar pq dq la t x du pu re G st tu ov ru cap B Bm m od n0) (hcs : oAct od = 97 ∨ oAct od = 105 ∨ oAct od = 99 ∨ oAct od = 100 ∨ oAct od = 106 ∨ oAct od = 118 ∨ oAct od = 112 ∨ oAct od = 61 ∨ oAct od = 110 ∨ oAct od = 104 ∨ oAct od = 72 ∨ oAct od = 117 ∨ oAct od = 101 ∨ oAct od = 107 ∨ oAct od = 114 ∨ oAct od = 119 ∨ oAct od = 115 ∨ oAct od = 122 ∨ oAct od = 62 ∨ oAct od = 60) (h61 : oSnd od ≠ none → Fi S 61 m (b2i (!run))) (hkn : oAct od = 107 → oNum od < 5) (hfn : oAct od = 114 ∨ oAct od = 119 → oNum od < 4) : BM (d + 184) gk_X13_doPlain [aR q, aR m] S (DpX S K F q oq ar pq dq la t (x, false, du, pu, re) G st tu ov ru cap B Bm (stAct t.length od run (x, false, du, pu, re) G)) := by
  obtain ⟨hm, h48, h49⟩ := h.2.2.2.2.1.nm
  have hh40 : G.1.length ≤ 40 := h.2.2.1.2.2.2.2.2.1.1
  refine BM.of rfl rfl rfl ?_
  rcases hcs with z | z | z | z | z | z | z | z | z | z | z | z | z | z | z | z | z
  · rw [gAct_97 z]
    rw [z] at h48
    (repeat (first | (refine BW.pl rfl rfl ?_) | (refine CW.geti rfl rfl (by assumption) rfl rfl (by assumption) (fun _ => ?_)) | (refine CW.getr rfl rfl (by assumption) rfl rfl (by assumption) ?_)))
    refine BW.sw (i' := 3) rfl rfl (by constructor <;> omega) rfl ?_
    exact S_a h
  · rw [gAct_105 z]
    rw [z] at h48
    (repeat (first | (refine BW.pl rfl rfl ?_) | (refine CW.geti rfl rfl (by assumption) rfl rfl (by assumption) (fun _ => ?_)) | (refine CW.getr rfl rfl (by assumption) rfl rfl (by assumption) ?_)))
    refine BW.sw (i' := 9) rfl rfl (by constructor <;> omega) rfl ?_
    exact S_i h
  · rw [gAct_99 z]
    rw [z] at h48
    (repeat (first | (refine BW.pl rfl rfl ?_) | (refine CW.geti rfl rfl (by assumption) rfl rfl (by assumption) (fun _ => ?_)) | (refine CW.getr rfl rfl (by assumption) rfl rfl (by assumption) ?_)))
    refine BW.sw (i' := 14) rfl rfl (by constructor <;> omega) rfl ?_
    exact S_c h h61
  · rw [gAct_100 z]
    rw [z] at h48
    (repeat (first | (refine BW.pl rfl rfl ?_) | (refine CW.geti rfl rfl (by assumption) rfl rfl (by assumption) (fun _ => ?_)) | (refine CW.getr rfl rfl (by assumption) rfl rfl (by assumption) ?_)))
    refine BW.sw (i' := 27) rfl rfl (by constructor <;> omega) rfl ?_
    exact S_d h
  · rw [gAct_106 z]
    rw [z] at h48
    (repeat (first | (refine BW.pl rfl rfl ?_) | (refine CW.geti rfl rfl (by assumption) rfl rfl (by assumption) (fun _ => ?_)) | (refine CW.getr rfl rfl (by assumption) rfl rfl (by assumption) ?_)))
    refine BW.sw (i' := 30) rfl rfl (by constructor <;> omega) rfl ?_
    exact S_j h
  · rw [gAct_118 z]
    rw [z] at h48
    (repeat (first | (refine BW.pl rfl rfl ?_) | (refine CW.geti rfl rfl (by assumption) rfl rfl (by assumption) (fun _ => ?_)) | (refine CW.getr rfl rfl (by assumption) rfl rfl (by assumption) ?_)))
    refine BW.sw (i' := 33) rfl rfl (by constructor <;> omega) rfl ?_
    exact S_v h
  · rw [gAct_112 z]
    rw [z] at h48
    (repeat (first | (refine BW.pl rfl rfl ?_) | (refine CW.geti rfl rfl (by assumption) rfl rfl (by assumption) (fun _ => ?_)) | (refine CW.getr rfl rfl (by assumption) rfl rfl (by assumption) ?_)))
    refine BW.sw (i' := 60) rfl rfl (by constructor <;> omega) rfl ?_
    exact S_p h
  · rw [gAct_61 z]
    rw [z] at h48
    (repeat (first | (refine BW.pl rfl rfl ?_) | (refine CW.geti rfl rfl (by assumption) rfl rfl (by assumption) (fun _ => ?_)) | (refine CW.getr rfl rfl (by assumption) rfl rfl (by assumption) ?_)))
    refine BW.sw (i' := 67) rfl rfl (by constructor <;> omega) rfl ?_
    exact S_eq h
  · rw [gAct_110 z]
    rw [z] at h48
    (repeat (first | (refine BW.pl rfl rfl ?_) | (refine CW.geti rfl rfl (by assumption) rfl rfl (by assumption) (fun _ => ?_)) | (refine CW.getr rfl rfl (by assumption) rfl rfl (by assumption) ?_)))
    refine BW.sw (i' := 74) rfl rfl (by constructor <;> omega) rfl ?_
    exact S_n h
  · rw [gAct_104 z]
    have h48' : Fi S 48 m 104 := by rw [← z]; exact h48
    have e := S_h (d := d) h (Or.inr ⟨z, rfl⟩)
    rw [show (if (false : Bool) = true then G.1 else []) = [] from rfl, if_neg (by simp)] at e
    clear h48
    (repeat (first | (refine BW.pl rfl rfl ?_) | (refine CW.geti rfl rfl (by assumption) rfl rfl (by assumption) (fun _ => ?_)) | (refine CW.getr rfl rfl (by assumption) rfl rfl (by assumption) ?_)))
    refine BW.sw (i' := 92) rfl rfl (by constructor <;> omega) rfl ?_
    exact e
  · rw [gAct_72 z]
    have h48' : Fi S 48 m 72 := by rw [← z]; exact h48
    have e := S_h (d := d) h (Or.inl ⟨z, rfl⟩)
    rw [if_pos rfl] at e
    clear h48
    (repeat (first | (refine BW.pl rfl rfl ?_) | (refine CW.geti rfl rfl (by assumption) rfl rfl (by assumption) (fun _ => ?_)) | (refine CW.getr rfl rfl (by assumption) rfl rfl (by assumption) ?_)))
    refine BW.sw (i' := 92) rfl rfl (by constructor <;> omega) rfl ?_
    by_cases z4 : G.1.length = 40
    · rw [if_pos (by omega)] at e
      rw [if_pos z4]
      exact e
    · rw [if_neg (by omega)] at e
      rw [if_neg z4]
      exact e
  · rw [gAct_117 z]
    rw [z] at h48
    (repeat (first | (refine BW.pl rfl rfl ?_) | (refine CW.geti rfl rfl (by assumption) rfl rfl (by assumption) (fun _ => ?_)) | (refine CW.getr rfl rfl (by assumption) rfl rfl (by assumption) ?_)))
    refine BW.sw (i' := 111) rfl rfl (by constructor <;> omega) rfl ?_
    exact S_u h
  · rw [gAct_101 z]
    rw [z] at h48
    (repeat (first | (refine BW.pl rfl rfl ?_) | (refine CW.geti rfl rfl (by assumption) rfl rfl (by assumption) (fun _ => ?_)) | (refine CW.getr rfl rfl (by assumption) rfl rfl (by assumption) ?_)))
    refine BW.sw (i' := 128) rfl rfl (by constructor <;> omega) rfl ?_
    exact S_e h
  · rw [gAct_107 z]
    rw [z] at h48
    (repeat (first | (refine BW.pl rfl rfl ?_) | (refine CW.geti rfl rfl (by assumption) rfl rfl (by assumption) (fun _ => ?_)) | (refine CW.getr rfl rfl (by assumption) rfl rfl (by assumption) ?_)))
    refine BW.sw (i' := 160) rfl rfl (by constructor <;> omega) rfl ?_
    exact S_k h (hkn z)
  · rw [gAct_114 z]
    rw [z] at h48
    (repeat (first | (refine BW.pl rfl rfl ?_) | (refine CW.geti rfl rfl (by assumption) rfl rfl (by assumption) (fun _ => ?_)) | (refine CW.getr rfl rfl (by assumption) rfl rfl (by assumption) ?_)))
    refine BW.sw (i' := 171) rfl rfl (by constructor <;> omega) rfl ?_
    exact S_r h (hfn (Or.inl z))
  · rw [gAct_119 z]
    rw [z] at h48
    (repeat (first | (refine BW.pl rfl rfl ?_) | (refine CW.geti rfl rfl (by assumption) rfl rfl (by assumption) (fun _ => ?_)) | (refine CW.getr rfl rfl (by assumption) rfl rfl (by assumption) ?_)))
    refine BW.sw (i' := 182) rfl rfl (by constructor <;> omega) rfl ?_
    exact S_w h (hfn (Or.inr z))
  · rw [gAct_ch (by omega)]
    have hac : oAct od = 115 ∨ oAct od = 122 ∨ oAct od = 62 ∨ oAct od = 60 := z
    rcases z with z | z | z | z
    · rw [z] at h48
      (repeat (first | (refine BW.pl rfl rfl ?_) | (refine CW.geti rfl rfl (by assumption) rfl rfl (by assumption) (fun _ => ?_)) | (refine CW.getr rfl rfl (by assumption) rfl rfl (by assumption) ?_)))
      refine BW.sw (i' := 214) rfl rfl (by constructor <;> omega) rfl ?_
      exact S_ch h hac
    · rw [z] at h48
      (repeat (first | (refine BW.pl rfl rfl ?_) | (refine CW.geti rfl rfl (by assumption) rfl rfl (by assumption) (fun _ => ?_)) | (refine CW.getr rfl rfl (by assumption) rfl rfl (by assumption) ?_)))
      refine BW.sw (i' := 214) rfl rfl (by constructor <;> omega) rfl ?_
      exact S_ch h hac
    · rw [z] at h48
      (repeat (first | (refine BW.pl rfl rfl ?_) | (refine CW.geti rfl rfl (by assumption) rfl rfl (by assumption) (fun _ => ?_)) | (refine CW.getr rfl rfl (by assumption) rfl rfl (by assumption) ?_)))
      refine BW.sw (i' := 214) rfl rfl (by constructor <;> omega) rfl ?_
      exact S_ch h hac
    · rw [z] at h48
      (repeat (first | (refine BW.pl rfl rfl ?_) | (refine CW.geti rfl rfl (by assumption) rfl rfl (by assumption) (fun _ => ?_)) | (refine CW.getr rfl rfl (by assumption) rfl rfl (by assumption) ?_)))
      refine BW.sw (i' := 214) rfl rfl (by constructor <;> omega) rfl ?_
      exact S_ch h hac
end SJ
